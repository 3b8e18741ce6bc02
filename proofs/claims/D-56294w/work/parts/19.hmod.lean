/-! The model's readers. -/
set_option maxRecDepth 100000
section HMO
variable {w : WT} {g : GT} {μ : Mem} {m : Nat} {r : Ri} {mc ms kc ks : Nat} {K : Out → Mem → Prop}
theorem MV.len (H : MV w μ m r) : (rH r).length ≤ 16 := H.2.2.1
theorem MV.lenK (H : MV w μ m r) : (rK r).length ≤ 8 := H.2.2.2.2.2.2.1
theorem MV.v0 (H : MV w μ m r) : zA μ (m + 1) 0 = nI (rH r).length := H.2.1.1
theorem MV.v1 (H : MV w μ m r) : zA μ (m + 1) 1 = nI (rS r) := H.2.1.2.1
theorem MV.v2 (H : MV w μ m r) : zA μ (m + 1) 2 = nI (rN r) := H.2.1.2.2.1
theorem MV.v3 (H : MV w μ m r) : zA μ (m + 1) 3 = nI (rK r).length := H.2.1.2.2.2.1
theorem MV.v4 (H : MV w μ m r) : zA μ (m + 1) 4 = nI (rB r) := H.2.1.2.2.2.2.1
theorem MV.v5 (H : MV w μ m r) : zA μ (m + 1) 5 = nI (rR r) := H.2.1.2.2.2.2.2.1
theorem MV.hut (H : MV w μ m r) {i : Nat} {h : Hu} (hi : (rH r)[i]? = some h) : zA μ (m + 1) (6 + 4 * i) = nI h.1 ∧ zA μ (m + 1) (6 + 4 * i + 1) = nI h.2.1 ∧ zA μ (m + 1) (6 + 4 * i + 2) = nI h.2.2.1 ∧ zA μ (m + 1) (6 + 4 * i + 3) = nI h.2.2.2 := H.2.1.2.2.2.2.2.2.1 i h hi
theorem MV.hk (H : MV w μ m r) {i : Nat} {k : Hk} (hi : (rK r)[i]? = some k) : zA μ (m + 1) (70 + 3 * i) = nI k.1 ∧ zA μ (m + 1) (70 + 3 * i + 1) = nI k.2.1 ∧ zA μ (m + 1) (70 + 3 * i + 2) = nI k.2.2 := H.2.1.2.2.2.2.2.2.2 i k hi
theorem MV.vi (H : MV w μ m r) {i : Nat} (h : i < 94) : vp_in (nI i) (zN μ (m + 1)) := H.1.i 0 i (by decide) h
theorem MV.r63 (H : MV w μ m r) : zR μ 63 m = some (m + 1) := H.1.r 0 (by decide)
theorem MV.cv (H : MV w μ m r) : zC μ (m + 1) = 101 := H.1.c 0 (by decide)
theorem vpi0 {n : Nat} (h : vp_in (nI 0) n) : vp_in 0 n := h
theorem vpi1 {n : Nat} (h : vp_in (nI 1) n) : vp_in 1 n := h
def huAt (x : Int32) (h : Hu) : Bool := decide (nI h.1 = x)
def huLv (n : Int32) (h : Hu) : Bool := decide (n ≤ nI h.2.1)
def hkId (x : Int32) (k : Hk) : Bool := decide (nI k.1 = x)
theorem mHutL (C : Cx_X3_hut w g) (H : MV w μ m r) (x : Int32) : ∀ n s, n = (rH r).length - s → s ≤ (rH r).length → K (.inl (some (tI (oI (fIx (huAt x) (rH r) s))))) μ → B_X3_hut_2 w g K mc ms m x (nI s) μ kc ks := by
  intro n
  induction n with
  | zero =>
    intro s hn hs k
    have hl := H.len
    refine bk_X3_hut_2 C fun _ => ⟨H.1.1, m + 1, H.r63, H.cv, H.vi (i := 0) (by decide), fun _ => ?_, fun h => ?_⟩
    · rw [fIx_end (by omega)] at k; exact k
    · rw [H.v0, nI_leI (by omega) (by omega)] at h; omega
  | succ n ih =>
    intro s hn hs k
    have hl := H.len
    have hlt : s < (rH r).length := by omega
    have hi : (rH r)[s]? = some (rH r)[s] := List.getElem?_eq_getElem hlt
    refine bk_X3_hut_2 C fun _ => ⟨H.1.1, m + 1, H.r63, H.cv, H.vi (i := 0) (by decide), fun h => ?_, fun h => ?_⟩
    · rw [H.v0, nI_leI (by omega) (by omega)] at h; omega
    · refine mAt H hi fun _ => ⟨fun hne => ?_, fun he => ?_⟩
      · rw [nI_1]
        refine ih (s + 1) (by omega) (by omega) ?_
        rw [fIx_no hi (by simp [huAt, hne])] at k; exact k
      · rw [fIx_yes hi (by simp [huAt, he])] at k; exact k
theorem mHut (H : MV w μ m r) {x : Int32} (k : K (.inl (some (tI (oI (fIx (huAt x) (rH r) 0))))) μ) : Tr_X3_hut w m x μ mc ms K :=
  tr_X3_hut fun _ C _ => mHutL C H x _ 0 rfl (Nat.zero_le _) k
theorem mNextL (C : Cx_X3_next w g) (H : MV w μ m r) (x : Int32) : ∀ n s, n = (rH r).length - s → s ≤ 17 → K (.inl (some (tI (oI (fIx (huLv x) (rH r) s))))) μ → B_X3_next_4 w g K mc ms m x (nI s) μ kc ks := by
  intro n
  induction n with
  | zero =>
    intro s hn hs k
    have hl := H.len
    refine bk_X3_next_4 C fun _ => ⟨H.1.1, m + 1, H.r63, H.cv, H.vi (i := 0) (by decide), fun _ => ?_, fun h => ?_⟩
    · rw [fIx_end (by omega)] at k; exact k
    · rw [H.v0, nI_leI (by omega) (by omega)] at h; omega
  | succ n ih =>
    intro s hn hs k
    have hl := H.len
    have hlt : s < (rH r).length := by omega
    have hi : (rH r)[s]? = some (rH r)[s] := List.getElem?_eq_getElem hlt
    refine bk_X3_next_4 C fun _ => ⟨H.1.1, m + 1, H.r63, H.cv, H.vi (i := 0) (by decide), fun h => ?_, fun h => ?_⟩
    · rw [H.v0, nI_leI (by omega) (by omega)] at h; omega
    · refine mLevel H hi fun _ => ⟨fun hne => ?_, fun he => ?_⟩
      · rw [nI_1]
        refine ih (s + 1) (by omega) (by omega) ?_
        rw [fIx_no hi (by simp [huLv, Int32.not_le.mpr hne])] at k; exact k
      · rw [fIx_yes hi (by simp [huLv, Int32.not_lt.mp he])] at k; exact k
theorem mNext (H : MV w μ m r) {s : Nat} {x : Int32} (hs : s ≤ 16) (k : K (.inl (some (tI (oI (fIx (huLv x) (rH r) (s + 1)))))) μ) : Tr_X3_next w m (nI s) x μ mc ms K :=
  tr_X3_next fun _ C _ => by rw [nI_1]; exact mNextL C H x _ (s + 1) rfl (by omega) k
theorem mNext0 (H : MV w μ m r) {x : Int32} (k : K (.inl (some (tI (oI (fIx (huLv x) (rH r) 0))))) μ) : Tr_X3_next w m (-1) x μ mc ms K :=
  tr_X3_next fun _ C _ => mNextL C H x _ 0 rfl (by omega) k
theorem mHikerL (C : Cx_X3_hiker w g) (H : MV w μ m r) (x : Int32) : ∀ n s, n = (rK r).length - s → s ≤ (rK r).length → K (.inl (some (tI (oI (fIx (hkId x) (rK r) s))))) μ → B_X3_hiker_2 w g K mc ms m x (nI s) μ kc ks := by
  intro n
  induction n with
  | zero =>
    intro s hn hs k
    have hl := H.lenK
    refine bk_X3_hiker_2 C fun _ => ⟨H.1.1, m + 1, H.r63, H.cv, H.vi (i := 3) (by decide), fun _ => ?_, fun h => ?_⟩
    · rw [fIx_end (by omega)] at k; exact k
    · rw [H.v3, nI_leI (by omega) (by omega)] at h; omega
  | succ n ih =>
    intro s hn hs k
    have hl := H.lenK
    have hlt : s < (rK r).length := by omega
    have hi : (rK r)[s]? = some (rK r)[s] := List.getElem?_eq_getElem hlt
    refine bk_X3_hiker_2 C fun _ => ⟨H.1.1, m + 1, H.r63, H.cv, H.vi (i := 3) (by decide), fun h => ?_, fun h => ?_⟩
    · rw [H.v3, nI_leI (by omega) (by omega)] at h; omega
    · refine mHiking (x := 0) rfl fun _ => ⟨H.cv, H.vi (by omega), ?_, ?_⟩
      all_goals rw [show (nI (70 + 3 * s + 0)).toNatClampNeg = 70 + 3 * s from nI_clamp (by omega), (H.hk hi).1]
      · intro hne
        rw [nI_1]
        refine ih (s + 1) (by omega) (by omega) ?_
        rw [fIx_no hi (by simp [hkId, hne])] at k; exact k
      · intro he
        rw [fIx_yes hi (by simp [hkId, he])] at k; exact k
theorem mHiker (H : MV w μ m r) {x : Int32} (k : K (.inl (some (tI (oI (fIx (hkId x) (rK r) 0))))) μ) : Tr_X3_hiker w m x μ mc ms K :=
  tr_X3_hiker fun _ C _ => mHikerL C H x _ 0 rfl (Nat.zero_le _) k
end HMO
