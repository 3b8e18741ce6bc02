/-! The model's hikers. -/
set_option maxRecDepth 100000
/-- counting and finding among the numbers from s to n -/
def rc (p : Nat → Bool) (n s : Nat) : Nat := (List.range' s (n - s)).countP p
def fN (p : Nat → Bool) (n s : Nat) : Option Nat := (List.range' s (n - s)).find? p
theorem rcons {n s : Nat} (h : s < n) : List.range' s (n - s) = s :: List.range' (s + 1) (n - (s + 1)) := by
  rw [show n - s = (n - (s + 1)) + 1 by omega, List.range'_succ]
theorem rc_end {p : Nat → Bool} {n s : Nat} (h : n ≤ s) : rc p n s = 0 := by
  unfold rc; rw [show n - s = 0 by omega]; rfl
theorem rc_yes {p : Nat → Bool} {n s : Nat} (h : s < n) (hp : p s = true) : rc p n s = rc p n (s + 1) + 1 := by
  unfold rc; rw [rcons h, List.countP_cons_of_pos hp]
theorem rc_no {p : Nat → Bool} {n s : Nat} (h : s < n) (hp : p s = false) : rc p n s = rc p n (s + 1) := by
  unfold rc; rw [rcons h, List.countP_cons_of_neg (by simp [hp])]
theorem rc_le (p : Nat → Bool) (n s : Nat) : rc p n s ≤ n - s := by
  unfold rc
  have := List.countP_le_length (p := p) (l := List.range' s (n - s))
  simpa using this
theorem fN_end {p : Nat → Bool} {n s : Nat} (h : n ≤ s) : fN p n s = none := by
  unfold fN; rw [show n - s = 0 by omega]; rfl
theorem fN_yes {p : Nat → Bool} {n s : Nat} (h : s < n) (hp : p s = true) : fN p n s = some s := by
  unfold fN; rw [rcons h, List.find?_cons_of_pos hp]
theorem fN_no {p : Nat → Bool} {n s : Nat} (h : s < n) (hp : p s = false) : fN p n s = fN p n (s + 1) := by
  unfold fN; rw [rcons h, List.find?_cons_of_neg (by simp [hp])]
theorem fN_some {p : Nat → Bool} {n s i : Nat} (h : fN p n s = some i) : s ≤ i ∧ i < n ∧ p i = true := by
  unfold fN at h
  have h1 := List.mem_of_find?_eq_some h
  have h2 := List.find?_some h
  rw [List.mem_range'_1] at h1
  exact ⟨h1.1, by omega, h2⟩
/-- whether the hiker at o comes ahead of the one at k -/
def bfr (l : List Hk) (k o : Nat) : Bool := match l[k]?, l[o]? with
  | some a, some b => decide (a.2.2 < b.2.2 ∨ (a.2.2 = b.2.2 ∧ o < k))
  | _, _ => false
def rk (l : List Hk) (k : Nat) : Nat := rc (bfr l k) l.length 0
def rkd (l : List Hk) (x : Int32) : Option Nat := fN (fun k => decide (nI (rk l k) = x)) l.length 0
section HM5
variable {w : WT} {g : GT} {μ : Mem} {m : Nat} {r : Ri} {mc ms kc ks : Nat} {K : Out → Mem → Prop}
theorem mHikerAt (H : MV w μ m r) {x : Int32} (k1 : (¬ ∃ i, i < (rK r).length ∧ x = nI i) → K (.inl (some (tI 0))) (zsI μ 57 m 1)) (k2 : ∀ i h, x = nI i → (rK r)[i]? = some h → K (.inl (some (tI (nI h.1)))) (zsI μ 57 m 0)) : Tr_X3_hikerAt w m x μ mc ms K := by
  have hl := H.lenK
  refine tr_X3_hikerAt fun _ C _ => ⟨H.1.1, m + 1, H.r63, H.cv, H.vi (i := 3) (by decide), ?_⟩
  rw [H.v3]
  refine mIsIn fun _ => ?_
  by_cases hx : 0 ≤ x ∧ x ≤ nI (rK r).length - 1
  · rw [if_pos hx]
    obtain ⟨i, hi, e⟩ := (inOf (by omega)).mp hx
    refine ⟨fun h => absurd h one0, fun _ => bk_X3_hikerAt_22 C fun _ => ⟨m, rfl, H.1.1, fun μ1 e1 => ?_⟩⟩
    subst e1
    have H1 := H.t 0
    have hi' : (rK r)[i]? = some (rK r)[i] := List.getElem?_eq_getElem hi
    refine ⟨H.1.1, fun h => absurd (zI57 _ _ _) h, fun _ => ?_⟩
    rw [e]
    refine mHiking (x := 0) rfl fun _ => ⟨m + 1, H1.r63, H1.cv, H1.vi (by omega), ?_⟩
    rw [show (nI (70 + 3 * i + 0)).toNatClampNeg = 70 + 3 * i from nI_clamp (by omega), (H1.hk hi').1]
    exact k2 i _ e hi'
  · rw [if_neg hx]
    refine ⟨fun _ => bk_X3_hikerAt_22 C fun _ => ⟨m, rfl, H.1.1, fun μ1 e1 => ?_⟩, fun h => absurd rfl h⟩
    subst e1
    refine ⟨H.1.1, fun _ => k1 (fun h => hx ((inOf (by omega)).mpr h)), fun h => ?_⟩
    rw [zI57] at h; exact absurd h one0
theorem mTellsOf (H : MV w μ m r) {x X : Int32} {what : Nat} (hX : X = nI what) (f : Hk → Nat) (hw : what < 3) (hf : ∀ i h, (rK r)[i]? = some h → zA μ (m + 1) (70 + 3 * i + what) = nI (f h))
    (k1 : fIx (hkId x) (rK r) 0 = none → K (.inl (some (tI 0))) (zsI μ 57 m 1)) (k2 : ∀ i h, fIx (hkId x) (rK r) 0 = some i → (rK r)[i]? = some h → nI h.1 = x → K (.inl (some (tI (nI (f h))))) (zsI μ 57 m 0)) : Tr_X3_tellsOf w m x X μ mc ms K := by
  subst hX
  refine tr_X3_tellsOf fun _ C _ => ⟨H.1.1, mHiker H fun _ => ?_⟩
  cases e : fIx (hkId x) (rK r) 0 with
  | none =>
    refine ⟨fun h => absurd h m1npos, fun _ => ?_⟩
    refine bk_X3_tellsOf_16 C fun _ => ⟨m, rfl, H.1.1, fun μ6 e6 => ?_⟩
    subst e6
    refine ⟨H.1.1, fun _ => k1 e, fun h => ?_⟩
    rw [zI57] at h; exact absurd h one0
  | some i =>
    obtain ⟨-, h, hi, hp⟩ := fIx_some e
    have hlt := H.2.2.ltk hi
    refine ⟨fun _ => ?_, fun h => absurd (nI_pos' (by omega)) h⟩
    refine bk_X3_tellsOf_16 C fun _ => ⟨m, rfl, H.1.1, fun μ6 e6 => ?_⟩
    subst e6
    have H1 := H.t 0
    refine ⟨H.1.1, fun h => absurd (zI57 _ _ _) h, fun _ => mHiking rfl fun _ => ⟨m + 1, H1.r63, H1.cv, H1.vi (by omega), ?_⟩⟩
    rw [show (nI (70 + 3 * i + what)).toNatClampNeg = 70 + 3 * i + what from nI_clamp (by omega), show zA (zsI μ 57 m 0) (m + 1) (70 + 3 * i + what) = nI (f h) from hf i h hi]
    exact k2 i h e hi (by simpa [hkId] using hp)
theorem mPlaceOf (H : MV w μ m r) {x : Int32} (k1 : fIx (hkId x) (rK r) 0 = none → K (.inl (some (tI 0))) (zsI μ 57 m 1)) (k2 : ∀ i h, fIx (hkId x) (rK r) 0 = some i → (rK r)[i]? = some h → nI h.1 = x → K (.inl (some (tI (nI h.2.1)))) (zsI μ 57 m 0)) : Tr_X3_placeOf w m x μ mc ms K :=
  tr_X3_placeOf fun _ => ⟨H.1.1, mTellsOf (what := 1) H rfl (fun h => h.2.1) (by decide) (fun i h hi => (H.hk hi).2.1) (fun e _ => k1 e) (fun i h e hi hx _ => k2 i h e hi hx)⟩
theorem mSeniorityOf (H : MV w μ m r) {x : Int32} (k1 : fIx (hkId x) (rK r) 0 = none → K (.inl (some (tI 0))) (zsI μ 57 m 1)) (k2 : ∀ i h, fIx (hkId x) (rK r) 0 = some i → (rK r)[i]? = some h → nI h.1 = x → K (.inl (some (tI (nI h.2.2)))) (zsI μ 57 m 0)) : Tr_X3_seniorityOf w m x μ mc ms K :=
  tr_X3_seniorityOf fun _ => ⟨H.1.1, mTellsOf (what := 2) H rfl (fun h => h.2.2) (by decide) (fun i h hi => (H.hk hi).2.2) (fun e _ => k1 e) (fun i h e hi hx _ => k2 i h e hi hx)⟩
theorem mRankedIn (C : Cx_X3_ranked w g) (H : MV w μ m r) (x : Int32) {i : Nat} (hi : i < (rK r).length) (k1 : nI (rk (rK r) i) ≠ x → B_X3_ranked_2 w g K mc ms m x (nI (i + 1)) μ kc ks) (k2 : nI (rk (rK r) i) = x → K (.inl (some (tI (nI i)))) μ) :
    ∀ n s t, n = (rK r).length - s → s ≤ (rK r).length → t + rc (bfr (rK r) i) (rK r).length s = rk (rK r) i → B_X3_ranked_17 w g K mc ms m x (nI i) (nI t) (nI s) μ kc ks := by
  have hik : (rK r)[i]? = some (rK r)[i] := List.getElem?_eq_getElem hi
  have ha := (H.2.2.hk hik).2.2
  intro n
  induction n with
  | zero =>
    intro s t hn hs ht
    have hl := H.lenK
    rw [rc_end (by omega), Nat.add_zero] at ht
    refine bk_X3_ranked_17 C fun _ => ⟨H.1.1, m + 1, H.r63, H.cv, H.vi (i := 3) (by decide), fun _ => ⟨fun h => ?_, fun h => ?_⟩, fun h => ?_⟩
    · rw [nI_1]; exact k1 (by rw [← ht]; exact h)
    · exact k2 (by rw [← ht]; exact h)
    · rw [H.v3, nI_leI (by omega) (by omega)] at h; omega
  | succ n ih =>
    intro s t hn hs ht
    have hl := H.lenK
    have hlt : s < (rK r).length := by omega
    have hsk : (rK r)[s]? = some (rK r)[s] := List.getElem?_eq_getElem hlt
    have hb := (H.2.2.hk hsk).2.2
    have e1 : (nI (70 + 3 * s + 2)).toNatClampNeg = 70 + 3 * s + 2 := nI_clamp (by omega)
    have e2 : (nI (70 + 3 * i + 2)).toNatClampNeg = 70 + 3 * i + 2 := nI_clamp (by omega)
    have yes : bfr (rK r) i s = true → B_X3_ranked_17 w g K mc ms m x (nI i) (nI t + 1) (nI s + 1) μ kc ks := by
      intro h
      rw [nI_1, nI_1]
      refine ih (s + 1) (t + 1) (by omega) (by omega) ?_
      rw [rc_yes hlt h] at ht; omega
    have no : bfr (rK r) i s = false → B_X3_ranked_17 w g K mc ms m x (nI i) (nI t + 0) (nI s + 1) μ kc ks := by
      intro h
      rw [nI_1, Int32.add_zero]
      refine ih (s + 1) t (by omega) (by omega) ?_
      rw [rc_no hlt h] at ht; omega
    refine bk_X3_ranked_17 C fun _ => ⟨H.1.1, m + 1, H.r63, H.cv, H.vi (i := 3) (by decide), fun h => ?_, fun h => ?_⟩
    · rw [H.v3, nI_leI (by omega) (by omega)] at h; omega
    refine mHiking (x := 2) rfl fun _ => ⟨H.cv, H.vi (by omega), H.1.1, mHiking (x := 2) rfl fun _ => ⟨m + 1, H.r63, H.cv, H.vi (by omega), ?_⟩⟩
    rw [e1, e2, (H.hk hsk).2.2, (H.hk hik).2.2, nI_ltI (by omega) (by omega)]
    refine ⟨fun h => yes ?_, fun h => ⟨H.1.1, mHiking (x := 2) rfl fun _ => ⟨m + 1, H.r63, H.cv, H.vi (by omega), H.1.1, mHiking (x := 2) rfl fun _ => ⟨m + 1, H.r63, H.cv, H.vi (by omega), ?_⟩⟩⟩⟩
    · simp [bfr, hik, hsk, h]
    rw [e1, e2, (H.hk hsk).2.2, (H.hk hik).2.2, nI_leI (by omega) (by omega), ne_eq, nI_eq (by omega) (by omega)]
    refine ⟨fun h2 => no ?_, fun h2 => ⟨fun h3 => no ?_, fun h3 => yes ?_⟩⟩
    · simp [bfr, hik, hsk]; omega
    · simp [bfr, hik, hsk]; omega
    · simp [bfr, hik, hsk]; omega
theorem mRankedL (C : Cx_X3_ranked w g) (H : MV w μ m r) (x : Int32) : ∀ n s, n = (rK r).length - s → s ≤ (rK r).length → K (.inl (some (tI (oI (fN (fun k => decide (nI (rk (rK r) k) = x)) (rK r).length s))))) μ → B_X3_ranked_2 w g K mc ms m x (nI s) μ kc ks := by
  intro n
  induction n with
  | zero =>
    intro s hn hs k
    have hl := H.lenK
    refine bk_X3_ranked_2 C fun _ => ⟨H.1.1, m + 1, H.r63, H.cv, H.vi (i := 3) (by decide), fun _ => ?_, fun h => ?_⟩
    · rw [fN_end (by omega)] at k; exact k
    · rw [H.v3, nI_leI (by omega) (by omega)] at h; omega
  | succ n ih =>
    intro s hn hs k
    have hl := H.lenK
    have hlt : s < (rK r).length := by omega
    refine bk_X3_ranked_2 C fun _ => ⟨H.1.1, m + 1, H.r63, H.cv, H.vi (i := 3) (by decide), fun h => ?_, fun h => ?_⟩
    · rw [H.v3, nI_leI (by omega) (by omega)] at h; omega
    · refine mRankedIn C H x hlt (fun hne => ?_) (fun he => ?_) _ 0 0 rfl (Nat.zero_le _) (by rw [Nat.zero_add]; rfl)
      · refine ih (s + 1) (by omega) (by omega) ?_
        rw [fN_no hlt (decide_eq_false hne)] at k; exact k
      · rw [fN_yes hlt (decide_eq_true he)] at k; exact k
theorem mRanked (H : MV w μ m r) {x : Int32} (k : K (.inl (some (tI (oI (rkd (rK r) x))))) μ) : Tr_X3_ranked w m x μ mc ms K :=
  tr_X3_ranked fun _ C _ => mRankedL C H x _ 0 rfl (Nat.zero_le _) k
theorem mHikerByRank (H : MV w μ m r) {x : Int32} (k1 : rkd (rK r) x = none → K (.inl (some (tI 0))) (zsI μ 57 m 1)) (k2 : ∀ i h, rkd (rK r) x = some i → (rK r)[i]? = some h → K (.inl (some (tI (nI h.1)))) (zsI μ 57 m 0)) : Tr_X3_hikerByRank w m x μ mc ms K := by
  refine tr_X3_hikerByRank fun _ C _ => ⟨H.1.1, mRanked H fun _ => ?_⟩
  cases e : rkd (rK r) x with
  | none =>
    refine ⟨fun h => absurd h m1npos, fun _ => bk_X3_hikerByRank_16 C fun _ => ⟨m, rfl, H.1.1, fun μ6 e6 => ?_⟩⟩
    subst e6
    refine ⟨H.1.1, fun _ => k1 e, fun h => ?_⟩
    rw [zI57] at h; exact absurd h one0
  | some i =>
    have hl := H.lenK
    obtain ⟨-, hlt, -⟩ := fN_some e
    have hi : (rK r)[i]? = some (rK r)[i] := List.getElem?_eq_getElem hlt
    refine ⟨fun _ => bk_X3_hikerByRank_16 C fun _ => ⟨m, rfl, H.1.1, fun μ6 e6 => ?_⟩, fun h => absurd (nI_pos' (by omega)) h⟩
    subst e6
    have H1 := H.t 0
    refine ⟨H.1.1, fun h => absurd (zI57 _ _ _) h, fun _ => mHiking (x := 0) rfl fun _ => ⟨m + 1, H1.r63, H1.cv, H1.vi (by omega), ?_⟩⟩
    rw [show (nI (70 + 3 * i + 0)).toNatClampNeg = 70 + 3 * i from nI_clamp (by omega), (H1.hk hi).1]
    exact k2 i _ e hi
/-- the way between two places -/
def dst (a b : Nat) : Nat := if b ≤ a then a - b else b - a
theorem mApart (H : MV w μ m r) {i j : Nat} {k : Hk} {h : Hu} (hi : (rK r)[i]? = some k) (hj : (rH r)[j]? = some h) (kk : K (.inl (some (tI (nI (dst k.2.1 h.1))))) μ) : Tr_X3_apart w m (nI i) (nI j) μ mc ms K := by
  have hl1 := H.2.2.ltk hi
  have hp1 := (H.2.2.hk hi).2.1
  have hp2 := (H.2.2.hu hj).1
  refine tr_X3_apart fun _ => ⟨H.1.1, mHiking (x := 1) rfl fun _ => ⟨m + 1, H.r63, H.cv, H.vi (by omega), H.1.1, mAt H hj fun _ => ?_⟩⟩
  rw [show (nI (70 + 3 * i + 1)).toNatClampNeg = 70 + 3 * i + 1 from nI_clamp (by omega), (H.hk hi).2.1]
  unfold dst at kk
  have ht := pk_sub_toInt (a := k.2.1) (b := h.1) (by omega) (by omega)
  by_cases hc : h.1 ≤ k.2.1
  · rw [if_pos hc] at kk
    rw [pk_sub hc]
    exact ⟨fun _ => kk, fun hn => absurd (nI_pos' (by omega)) hn⟩
  · rw [if_neg hc] at kk
    refine ⟨fun hn => absurd hn (by have := pk_sneg (a := k.2.1) (b := h.1) (by omega) (by omega); exact Int32.not_le.mpr this), fun _ => ?_⟩
    have e : -(nI k.2.1 - nI h.1) = nI (h.1 - k.2.1) := by
      rw [Int32.neg_sub, pk_sub (by omega)]
    rw [e]; exact kk
end HM5
