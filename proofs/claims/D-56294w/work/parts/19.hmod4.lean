/-! The model's questions: searching, ranks, totals. -/
set_option maxRecDepth 100000
section HM4
variable {w : WT} {g : GT} {μ : Mem} {m : Nat} {r : Ri} {mc ms kc ks : Nat} {K : Out → Mem → Prop}
def huGt (x : Int32) (h : Hu) : Bool := decide (x < nI h.1)
/-- how many huts are not behind a place -/
def mny (l : List Hu) (x : Int32) : Nat := (fIx (huGt x) l 0).getD l.length
theorem mManyL (C : Cx_X3_many w g) (H : MV w μ m r) (x : Int32) : ∀ n s, n = (rH r).length - s → s ≤ (rH r).length → K (.inl (some (tI (nI ((fIx (huGt x) (rH r) s).getD (rH r).length))))) μ → B_X3_many_2 w g K mc ms m x (nI s) μ kc ks := by
  intro n
  induction n with
  | zero =>
    intro s hn hs k
    have hl := H.len
    refine bk_X3_many_2 C fun _ => ⟨H.1.1, m + 1, H.r63, H.cv, H.vi (i := 0) (by decide), fun _ => ?_, fun h => ?_⟩
    · rw [fIx_end (by omega)] at k; rw [show s = (rH r).length by omega]; exact k
    · rw [H.v0, nI_leI (by omega) (by omega)] at h; omega
  | succ n ih =>
    intro s hn hs k
    have hl := H.len
    have hlt : s < (rH r).length := by omega
    have hi : (rH r)[s]? = some (rH r)[s] := List.getElem?_eq_getElem hlt
    refine bk_X3_many_2 C fun _ => ⟨H.1.1, m + 1, H.r63, H.cv, H.vi (i := 0) (by decide), fun h => ?_, fun h => ?_⟩
    · rw [H.v0, nI_leI (by omega) (by omega)] at h; omega
    · refine mAt H hi fun _ => ⟨fun hlt2 => ?_, fun hge => ?_⟩
      · rw [fIx_yes hi (by simp [huGt, hlt2])] at k; exact k
      · rw [nI_1]
        refine ih (s + 1) (by omega) (by omega) ?_
        rw [fIx_no hi (by simp only [huGt, hge, decide_false])] at k; exact k
theorem mMany (H : MV w μ m r) {x : Int32} (k : K (.inl (some (tI (nI (mny (rH r) x))))) μ) : Tr_X3_many w m x μ mc ms K :=
  tr_X3_many fun _ C _ => mManyL C H x _ 0 rfl (Nat.zero_le _) k
theorem mny_le (l : List Hu) (x : Int32) : mny l x ≤ l.length := by
  unfold mny
  cases e : fIx (huGt x) l 0 with
  | none => exact Nat.le_refl _
  | some i =>
    obtain ⟨-, a, h, -⟩ := fIx_some e
    exact Nat.le_of_lt (List.getElem?_eq_some_iff.mp h).1
theorem mHutBefore (H : MV w μ m r) {x : Int32} (k1 : mny (rH r) x = 0 → K (.inl (some (tI 0))) (zsI μ 57 m 1)) (k2 : ∀ i h, mny (rH r) x = i + 1 → (rH r)[i]? = some h → K (.inl (some (tI (nI h.1)))) (zsI μ 57 m 0)) : Tr_X3_hutBefore w m x μ mc ms K := by
  have hl := H.len
  have hm := mny_le (rH r) x
  refine tr_X3_hutBefore fun _ C _ => ⟨H.1.1, mMany H fun _ => ⟨fun hne => ?_, fun he => ?_⟩⟩
  · have h0 : mny (rH r) x ≠ 0 := fun z => hne (by rw [z]; rfl)
    obtain ⟨i, hi⟩ : ∃ i, mny (rH r) x = i + 1 := ⟨mny (rH r) x - 1, by omega⟩
    have hlt : i < (rH r).length := by omega
    refine bk_X3_hutBefore_16 C fun _ => ⟨m, rfl, H.1.1, fun μ1 e => ?_⟩
    subst e
    refine ⟨H.1.1, fun h => absurd (zI57 _ _ _) h, fun _ => ?_⟩
    rw [hi, nI_pred]
    exact mAt (H.t 0) (List.getElem?_eq_getElem hlt) fun _ => k2 i _ hi (List.getElem?_eq_getElem hlt)
  · have h0 : mny (rH r) x = 0 := (nI_eq (by omega) (by decide)).mp (he.trans nI_0.symm)
    refine bk_X3_hutBefore_16 C fun _ => ⟨m, rfl, H.1.1, fun μ1 e => ?_⟩
    subst e
    refine ⟨H.1.1, fun _ => k1 h0, fun h => ?_⟩
    rw [zI57] at h; exact absurd h one0
theorem mHutBeforeW (H : MV w μ m r) {x : Int32} (k1 : mny (rH r) x = 0 → K (.inl (some (tI 0))) (zsI μ 57 m 1)) (k2 : ∀ i h, mny (rH r) x = i + 1 → (rH r)[i]? = some h → K (.inl (some (tI (nI h.1)))) (zsI μ 57 m 0)) : Tr_X3_hutBeforeByWalking w m x μ mc ms K :=
  tr_X3_hutBeforeByWalking fun _ => ⟨H.1.1, mHutBefore H (fun h _ => k1 h) (fun i h a b _ => k2 i h a b)⟩
theorem mRankOf (H : MV w μ m r) {x : Int32} (k1 : fIx (huAt x) (rH r) 0 = none → K (.inl (some (tI 0))) (zsI μ 57 m 1)) (k2 : ∀ i h, fIx (huAt x) (rH r) 0 = some i → (rH r)[i]? = some h → nI h.1 = x → K (.inl (some (tI (nI i)))) (zsI μ 57 m 0)) : Tr_X3_rankOf w m x μ mc ms K := by
  refine tr_X3_rankOf fun _ => ⟨H.1.1, mHut H fun _ => ?_⟩
  cases e : fIx (huAt x) (rH r) 0 with
  | none =>
    refine ⟨fun h => absurd h m1npos, fun _ => ⟨H.1.1, fun μ1 e1 => ?_⟩⟩
    subst e1
    exact ⟨fun _ => k1 e, fun h => by rw [zI57] at h; exact absurd h one0⟩
  | some i =>
    obtain ⟨-, h, hi, hp⟩ := fIx_some e
    have hlt := H.2.2.lt hi
    refine ⟨fun _ => ⟨H.1.1, fun μ1 e1 => ?_⟩, fun h => absurd (nI_pos' (by omega)) h⟩
    subst e1
    exact ⟨fun h => absurd (zI57 _ _ _) h, fun _ => k2 i h e hi (by simpa [huAt] using hp)⟩
theorem mRankByCounting (H : MV w μ m r) {x : Int32} (k1 : fIx (huAt x) (rH r) 0 = none → K (.inl (some (tI 0))) (zsI μ 57 m 1)) (k2 : ∀ i h, fIx (huAt x) (rH r) 0 = some i → (rH r)[i]? = some h → nI h.1 = x → K (.inl (some (tI (nI i)))) (zsI μ 57 m 0)) : Tr_X3_rankByCounting w m x μ mc ms K :=
  tr_X3_rankByCounting fun _ => ⟨H.1.1, mRankOf H (fun h _ => k1 h) (fun i h a b c _ => k2 i h a b c)⟩
/-- x is a place of a row of n -/
theorem inOf {x : Int32} {n : Nat} (hn : n ≤ 1000) : (0 ≤ x ∧ x ≤ nI n - 1) ↔ ∃ i, i < n ∧ x = nI i := by
  cases n with
  | zero =>
    refine ⟨fun h => ?_, fun ⟨i, h, _⟩ => absurd h (Nat.not_lt_zero i)⟩
    have h2 : x ≤ -1 := h.2
    exact absurd (Int32.le_trans h.1 h2) (by decide)
  | succ n =>
    rw [nI_pred]
    refine ⟨fun h => ?_, fun ⟨i, h, e⟩ => ?_⟩
    · obtain ⟨j, hj, e⟩ := nI_of2 (M := nI n) (n := n) (nI_toInt (by omega)) (Int32.not_lt.mpr h.1) h.2
      exact ⟨j, by omega, e⟩
    · subst e
      exact ⟨nI_pos' (by omega), nI_le (by omega) (by omega)⟩
theorem mHutAtRank (H : MV w μ m r) {x : Int32} (k1 : (¬ ∃ i, i < (rH r).length ∧ x = nI i) → K (.inl (some (tI 0))) (zsI μ 57 m 1)) (k2 : ∀ i h, x = nI i → (rH r)[i]? = some h → K (.inl (some (tI (nI h.1)))) (zsI μ 57 m 0)) : Tr_X3_hutAtRank w m x μ mc ms K := by
  have hl := H.len
  refine tr_X3_hutAtRank fun _ C _ => ⟨H.1.1, m + 1, H.r63, H.cv, H.vi (i := 0) (by decide), ?_⟩
  rw [H.v0]
  refine mIsIn fun _ => ?_
  by_cases hx : 0 ≤ x ∧ x ≤ nI (rH r).length - 1
  · rw [if_pos hx]
    obtain ⟨i, hi, e⟩ := (inOf (by omega)).mp hx
    refine ⟨fun h => absurd h one0, fun _ => bk_X3_hutAtRank_22 C fun _ => ⟨m, rfl, H.1.1, fun μ1 e1 => ?_⟩⟩
    subst e1
    refine ⟨H.1.1, fun h => absurd (zI57 _ _ _) h, fun _ => ?_⟩
    rw [e]
    exact mAt (H.t 0) (List.getElem?_eq_getElem hi) fun _ => k2 i _ e (List.getElem?_eq_getElem hi)
  · rw [if_neg hx]
    refine ⟨fun _ => bk_X3_hutAtRank_22 C fun _ => ⟨m, rfl, H.1.1, fun μ1 e1 => ?_⟩, fun h => absurd rfl h⟩
    subst e1
    refine ⟨H.1.1, fun _ => k1 (fun h => hx ((inOf (by omega)).mpr h)), fun h => ?_⟩
    rw [zI57] at h; exact absurd h one0
theorem mHutAtRankC (H : MV w μ m r) {x : Int32} (k1 : (¬ ∃ i, i < (rH r).length ∧ x = nI i) → K (.inl (some (tI 0))) (zsI μ 57 m 1)) (k2 : ∀ i h, x = nI i → (rH r)[i]? = some h → K (.inl (some (tI (nI h.1)))) (zsI μ 57 m 0)) : Tr_X3_hutAtRankByCounting w m x μ mc ms K :=
  tr_X3_hutAtRankByCounting fun _ => ⟨H.1.1, mHutAtRank H (fun h _ => k1 h) (fun i h a b _ => k2 i h a b)⟩
theorem mSpan (H : MV w μ m r) {x n : Int32} (k1 : ¬ (0 ≤ n ∧ n ≤ nI 4) → K (.inl (some (tI 0))) (zsI μ 57 m 1))
    (k2 : (0 ≤ n ∧ n ≤ nI 4) → (∀ i h, fIx (huAt x) (rH r) 0 = some i → (rH r)[i]? = some h → n ≤ nI h.2.1 → fIx (huLv n) (rH r) (i + 1) = none) → K (.inl (some (tI 0))) (zsI μ 57 m (nI 2)))
    (k3 : (0 ≤ n ∧ n ≤ nI 4) → ∀ i h j, fIx (huAt x) (rH r) 0 = some i → (rH r)[i]? = some h → n ≤ nI h.2.1 → fIx (huLv n) (rH r) (i + 1) = some j → K (.inl (some (tI (nI j - nI i)))) (zsI μ 57 m 0)) :
    Tr_X3_span w m x n μ mc ms K := by
  refine tr_X3_span fun _ => ⟨H.1.1, mLooks (ld := true) H ?_ ?_ ?_⟩
  · exact fun hx _ => ⟨fun _ => k1 hx, fun h => absurd rfl h⟩
  · exact fun hx hn _ => ⟨fun _ => k2 hx fun i h e hi hl => (hn i h e hi hl).2, fun h => absurd rfl h⟩
  · intro hx i h e hi hl hy _
    obtain ⟨j, hj⟩ := hy rfl
    have hlt := H.2.2.lt hi
    have H1 := H.t 0
    refine ⟨fun h => absurd h one0, fun _ => ⟨H.1.1, mHut H1 fun _ => ⟨H.1.1, ?_⟩⟩⟩
    rw [e]
    refine mNext H1 (by omega) fun _ => ⟨H.1.1, mHut H1 fun _ => ?_⟩
    rw [hj, e]
    exact k3 hx i h j e hi hl hj
theorem mHutsByAccounts (H : MV w μ m r) (k : K (.inl (some (tI (nI (rB r) - nI (rR r))))) (zsI μ 57 m 0)) : Tr_X3_hutsByAccounts w m μ mc ms K := by
  refine tr_X3_hutsByAccounts fun _ => ⟨H.1.1, fun μ1 e => ?_⟩
  subst e
  have H1 := H.t 0
  refine ⟨m + 1, H1.r63, H1.cv, H1.vi (i := 4) (by decide), H1.vi (i := 5) (by decide), ?_⟩
  rw [H1.v4, H1.v5]; exact k
theorem mIsConsistent (H : MV w μ m r) (k : K (.inl (some (tI (if nI (rH r).length = nI (rB r) - nI (rR r) then 1 else 0)))) (zsI μ 57 m 0)) : Tr_X3_isConsistent w m μ mc ms K := by
  refine tr_X3_isConsistent fun _ => ⟨H.1.1, fun μ1 e => ?_⟩
  subst e
  have H1 := H.t 0
  refine ⟨m + 1, H1.r63, H1.cv, H1.vi (i := 0) (by decide), H1.vi (i := 4) (by decide), H1.vi (i := 5) (by decide), ?_⟩
  rw [H1.v4, H1.v5, H1.v0]
  refine ⟨fun h => ?_, fun h => ?_⟩
  · rw [if_neg h] at k; exact k
  · rw [if_pos h] at k; exact k
def bedSum (l : List Hu) : Nat := (l.map fun h => h.2.2.1).sum
theorem mBedsL (C : Cx_X3_beds w g) (H : MV w μ m r) : ∀ n s t, n = (rH r).length - s → s ≤ (rH r).length → K (.inl (some (tI (nI (t + bedSum ((rH r).drop s)))))) μ → B_X3_beds_4 w g K mc ms m (nI t) (nI s) μ kc ks := by
  intro n
  induction n with
  | zero =>
    intro s t hn hs k
    have hl := H.len
    refine bk_X3_beds_4 C fun _ => ⟨H.1.1, m + 1, H.r63, H.cv, H.vi (i := 0) (by decide), fun _ => ?_, fun h => ?_⟩
    · rw [List.drop_eq_nil_of_le (by omega)] at k; exact k
    · rw [H.v0, nI_leI (by omega) (by omega)] at h; omega
  | succ n ih =>
    intro s t hn hs k
    have hl := H.len
    have hlt : s < (rH r).length := by omega
    have hi : (rH r)[s]? = some (rH r)[s] := List.getElem?_eq_getElem hlt
    rw [List.drop_eq_getElem_cons hlt] at k
    refine bk_X3_beds_4 C fun _ => ⟨H.1.1, m + 1, H.r63, H.cv, H.vi (i := 0) (by decide), fun h => ?_, fun h => ?_⟩
    · rw [H.v0, nI_leI (by omega) (by omega)] at h; omega
    · refine mOf (x := 2) rfl fun _ => ⟨H.cv, H.vi (by omega), ?_⟩
      rw [show (nI (6 + 4 * s + 2)).toNatClampNeg = 6 + 4 * s + 2 from nI_clamp (by omega), (H.hut hi).2.2.1, nI_add, nI_1]
      refine ih (s + 1) _ (by omega) (by omega) ?_
      rw [show t + (rH r)[s].2.2.1 + bedSum ((rH r).drop (s + 1)) = t + bedSum ((rH r)[s] :: (rH r).drop (s + 1)) by unfold bedSum; rw [List.map_cons, List.sum_cons]; omega]; exact k
theorem mBeds (H : MV w μ m r) (k : K (.inl (some (tI (nI (bedSum (rH r)))))) μ) : Tr_X3_beds w m μ mc ms K :=
  tr_X3_beds fun _ C _ => mBedsL C H _ 0 0 rfl (Nat.zero_le _) (by rw [Nat.zero_add]; exact k)
theorem mBedTotal (H : MV w μ m r) (k : K (.inl (some (tI (nI (bedSum (rH r)))))) (zsI μ 57 m 0)) : Tr_X3_bedTotal w m μ mc ms K :=
  tr_X3_bedTotal fun _ => ⟨H.1.1, fun _ e => by subst e; exact mBeds (H.t 0) fun _ => k⟩
theorem bedSum_le : ∀ (l : List Hu), (∀ h ∈ l, huOk h) → bedSum l ≤ 4 * l.length
  | [], _ => Nat.le_refl _
  | a :: l, h => by
    have h1 := (h a List.mem_cons_self).2.2.2.1
    have h2 := bedSum_le l fun x hx => h x (List.mem_cons_of_mem _ hx)
    simp only [bedSum, List.map_cons, List.sum_cons, List.length_cons] at *
    omega
theorem mBedsLeft (H : MV w μ m r) (k : K (.inl (some (tI (nI (bedSum (rH r) - (rK r).length))))) (zsI μ 57 m 0)) : Tr_X3_bedsLeft w m μ mc ms K := by
  have hl := H.len
  have hk := H.lenK
  have hb := bedSum_le (rH r) H.2.2.2.2.1
  refine tr_X3_bedsLeft fun _ => ⟨H.1.1, fun μ1 e => ?_⟩
  subst e
  have H1 := H.t 0
  refine mBeds H1 fun _ => ⟨H.1.1, m + 1, H1.r63, H1.cv, H1.vi (i := 3) (by decide), ?_⟩
  rw [H1.v3]
  refine ⟨fun h => ?_, fun h => mBeds H1 fun _ => ⟨H.1.1, m + 1, H1.r63, H1.cv, H1.vi (i := 3) (by decide), ?_⟩⟩
  · rw [nI_leI (by omega) (by omega)] at h
    rw [Nat.sub_eq_zero_of_le h] at k; exact k
  · rw [nI_leI (by omega) (by omega)] at h
    rw [H1.v3, pk_sub (by omega)]; exact k
end HM4
