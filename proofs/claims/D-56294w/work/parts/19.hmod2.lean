/-! The model's questions on huts and paths. -/
set_option maxRecDepth 100000
section HM2
variable {w : WT} {g : GT} {μ : Mem} {m : Nat} {r : Ri} {mc ms kc ks : Nat} {K : Out → Mem → Prop}
theorem MV.t (H : MV w μ m r) (c : Int32) : MV w (zsI μ 57 m c) m r := ⟨H.1.mf (MF.sI m μ 57 c), H.2.1, H.2.2⟩
theorem zI57 (μ : Mem) (m : Nat) (c : Int32) : zI (zsI μ 57 m c) 57 m = c := by rw [zI_zsI]; simp
theorem one0 : ¬ (1 : Int32) = 0 := by decide
theorem mIsLevel {x : Int32} (k : K (.inl (some (tI (if 0 ≤ x ∧ x ≤ nI 4 then 1 else 0)))) μ) : Tr_X3_isLevel w x μ mc ms K := by
  refine tr_X3_isLevel fun _ => mIsIn fun _ => ⟨?_, k⟩
  split <;> exact ⟨by decide, by decide⟩
theorem lvOf {x : Int32} (h : 0 ≤ x ∧ x ≤ nI 4) : ∃ j, j ≤ 4 ∧ x = nI j := by
  obtain ⟨j, hj, e⟩ := nI_of2 (M := nI 4) (n := 4) (by decide) (Int32.not_lt.mpr h.1) h.2
  exact ⟨j, hj, e⟩
theorem zBit : ∀ b, b < 32 → ∀ j, j < 5 → ((nI b) >>> (nI j &&& 31)) &&& (1 : Int32) = nI (b / 2 ^ j % 2) := by decide +kernel
theorem huOk.b (h : Hu) (H : huOk h) : h.2.2.2 < 32 := by
  have := H.2.2.2.2
  have h2 : 2 ^ (h.2.1 + 1) ≤ 2 ^ 5 := Nat.pow_le_pow_right (by decide) (by have := H.2.1; omega)
  omega
theorem mTells (H : MV w μ m r) {i : Nat} {X : Int32} (hX : X = nI i) (hi : i < 94) (k : K (.inl (some (tI (zA μ (m + 1) i)))) (zsI μ 57 m 0)) : Tr_X3_tells w m X μ mc ms K := by
  subst hX
  have H1 := H.t 0
  refine tr_X3_tells fun _ => ⟨H.1.1, fun μ3 e => ?_⟩
  subst e
  refine ⟨m + 1, H1.r63, H1.cv, H1.vi hi, ?_⟩
  rw [nI_clamp (by omega)]; exact k
theorem mHutCount (H : MV w μ m r) (k : K (.inl (some (tI (nI (rH r).length)))) (zsI μ 57 m 0)) : Tr_X3_hutCount w m μ mc ms K :=
  tr_X3_hutCount fun _ => ⟨H.1.1, mTells (i := 0) H rfl (by decide) fun _ => by rw [H.v0]; exact k⟩
theorem mHikerCount (H : MV w μ m r) (k : K (.inl (some (tI (nI (rK r).length)))) (zsI μ 57 m 0)) : Tr_X3_hikerCount w m μ mc ms K :=
  tr_X3_hikerCount fun _ => ⟨H.1.1, mTells (i := 3) H rfl (by decide) fun _ => by rw [H.v3]; exact k⟩
theorem mBuiltTotal (H : MV w μ m r) (k : K (.inl (some (tI (nI (rB r))))) (zsI μ 57 m 0)) : Tr_X3_builtTotal w m μ mc ms K :=
  tr_X3_builtTotal fun _ => ⟨H.1.1, mTells (i := 4) H rfl (by decide) fun _ => by rw [H.v4]; exact k⟩
/-- something of a hut: its word 'what', f tells it -/
theorem mAbout (H : MV w μ m r) {x X : Int32} {what : Nat} (hX : X = nI what) (f : Hu → Nat) (hw : what < 4) (hf : ∀ i h, (rH r)[i]? = some h → zA μ (m + 1) (6 + 4 * i + what) = nI (f h))
    (k1 : fIx (huAt x) (rH r) 0 = none → K (.inl (some (tI 0))) (zsI μ 57 m 1)) (k2 : ∀ i h, fIx (huAt x) (rH r) 0 = some i → (rH r)[i]? = some h → nI h.1 = x → K (.inl (some (tI (nI (f h))))) (zsI μ 57 m 0)) : Tr_X3_about w m x X μ mc ms K := by
  subst hX
  refine tr_X3_about fun _ C _ => ⟨H.1.1, mHut H fun _ => ?_⟩
  cases e : fIx (huAt x) (rH r) 0 with
  | none =>
    refine ⟨fun h => absurd h (by decide), fun _ => ?_⟩
    refine bk_X3_about_16 C fun _ => ⟨m, rfl, H.1.1, fun μ6 e6 => ?_⟩
    subst e6
    refine ⟨H.1.1, fun _ => k1 e, fun h => ?_⟩
    rw [zI57] at h; exact absurd h one0
  | some i =>
    obtain ⟨-, h, hi, hp⟩ := fIx_some e
    have hlt := H.2.2.lt hi
    refine ⟨fun _ => ?_, fun h => absurd (nI_pos' (by omega)) h⟩
    refine bk_X3_about_16 C fun _ => ⟨m, rfl, H.1.1, fun μ6 e6 => ?_⟩
    subst e6
    have H1 := H.t 0
    refine ⟨H.1.1, fun h => absurd (zI57 _ _ _) h, fun _ => mOf rfl fun _ => ⟨m + 1, H1.r63, H1.cv, H1.vi (by omega), ?_⟩⟩
    rw [show (nI (6 + 4 * i + what)).toNatClampNeg = 6 + 4 * i + what from nI_clamp (by omega), show zA (zsI μ 57 m 0) (m + 1) (6 + 4 * i + what) = nI (f h) from hf i h hi]
    exact k2 i h e hi (by simpa [huAt] using hp)
theorem mLevelOf (H : MV w μ m r) {x : Int32} (k1 : fIx (huAt x) (rH r) 0 = none → K (.inl (some (tI 0))) (zsI μ 57 m 1)) (k2 : ∀ i h, fIx (huAt x) (rH r) 0 = some i → (rH r)[i]? = some h → nI h.1 = x → K (.inl (some (tI (nI h.2.1)))) (zsI μ 57 m 0)) : Tr_X3_levelOf w m x μ mc ms K :=
  tr_X3_levelOf fun _ => ⟨H.1.1, mAbout (what := 1) H rfl (fun h => h.2.1) (by decide) (fun i h hi => (H.hut hi).2.1) (fun e _ => k1 e) (fun i h e hi hx _ => k2 i h e hi hx)⟩
theorem mBedsOf (H : MV w μ m r) {x : Int32} (k1 : fIx (huAt x) (rH r) 0 = none → K (.inl (some (tI 0))) (zsI μ 57 m 1)) (k2 : ∀ i h, fIx (huAt x) (rH r) 0 = some i → (rH r)[i]? = some h → nI h.1 = x → K (.inl (some (tI (nI h.2.2.1)))) (zsI μ 57 m 0)) : Tr_X3_bedsOf w m x μ mc ms K :=
  tr_X3_bedsOf fun _ => ⟨H.1.1, mAbout (what := 2) H rfl (fun h => h.2.2.1) (by decide) (fun i h hi => (H.hut hi).2.2.1) (fun e _ => k1 e) (fun i h e hi hx _ => k2 i h e hi hx)⟩
def topOf (l : List Hu) : Nat := l.foldl (fun a h => max a h.2.1) 0
theorem mTopL (C : Cx_X3_top w g) (H : MV w μ m r) : ∀ n s t, n = (rH r).length - s → s ≤ (rH r).length → t ≤ 4 → K (.inl (some (tI (nI (((rH r).drop s).foldl (fun a h => max a h.2.1) t))))) μ → B_X3_top_4 w g K mc ms m (nI t) (nI s) μ kc ks := by
  intro n
  induction n with
  | zero =>
    intro s t hn hs ht k
    have hl := H.len
    refine bk_X3_top_4 C fun _ => ⟨H.1.1, m + 1, H.r63, H.cv, H.vi (i := 0) (by decide), fun _ => ?_, fun h => ?_⟩
    · rw [List.drop_eq_nil_of_le (by omega)] at k; exact k
    · rw [H.v0, nI_leI (by omega) (by omega)] at h; omega
  | succ n ih =>
    intro s t hn hs ht k
    have hl := H.len
    have hlt : s < (rH r).length := by omega
    have hi : (rH r)[s]? = some (rH r)[s] := List.getElem?_eq_getElem hlt
    have hu := H.2.2.hu hi
    rw [List.drop_eq_getElem_cons hlt, List.foldl_cons] at k
    refine bk_X3_top_4 C fun _ => ⟨H.1.1, m + 1, H.r63, H.cv, H.vi (i := 0) (by decide), fun h => ?_, fun h => ?_⟩
    · rw [H.v0, nI_leI (by omega) (by omega)] at h; omega
    · have h4 := hu.2.1
      refine mLevel H hi fun _ => ⟨fun h => ?_, fun h => ⟨H.1.1, mLevel H hi fun _ => ?_⟩⟩
      · rw [nI_leI (by omega) (by omega)] at h
        rw [nI_1]
        rw [Nat.max_eq_left h] at k
        exact ih (s + 1) t (by omega) (by omega) ht k
      · rw [nI_leI (by omega) (by omega)] at h
        rw [nI_1]
        rw [Nat.max_eq_right (by omega)] at k
        exact ih (s + 1) _ (by omega) (by omega) h4 k
theorem mTop (H : MV w μ m r) (k : K (.inl (some (tI (nI (topOf (rH r)))))) μ) : Tr_X3_top w m μ mc ms K :=
  tr_X3_top fun _ C _ => mTopL C H _ 0 0 rfl (Nat.zero_le _) (by decide) k
theorem mTopLevel (H : MV w μ m r) (k : K (.inl (some (tI (nI (topOf (rH r)))))) (zsI μ 57 m 0)) : Tr_X3_topLevel w m μ mc ms K :=
  tr_X3_topLevel fun _ => ⟨H.1.1, fun _ e => by subst e; exact mTop (H.t 0) fun _ => k⟩
theorem mHutsOnLevelL (C : Cx_X3_hutsOnLevel w g) (H : MV w μ m r) (h0 : zI μ 57 m = 0) (x : Int32) : ∀ n s t, n = (rH r).length - s → s ≤ (rH r).length → K (.inl (some (tI (nI (t + ((rH r).drop s).countP (huLv x)))))) μ → B_X3_hutsOnLevel_20 w g K mc ms m x (nI t) (nI s) μ kc ks := by
  intro n
  induction n with
  | zero =>
    intro s t hn hs k
    have hl := H.len
    refine bk_X3_hutsOnLevel_20 C fun _ => ⟨H.1.1, m + 1, H.r63, H.cv, H.vi (i := 0) (by decide), fun _ => ?_, fun h => ?_⟩
    · rw [List.drop_eq_nil_of_le (by omega)] at k; exact k
    · rw [H.v0, nI_leI (by omega) (by omega)] at h; omega
  | succ n ih =>
    intro s t hn hs k
    have hl := H.len
    have hlt : s < (rH r).length := by omega
    have hi : (rH r)[s]? = some (rH r)[s] := List.getElem?_eq_getElem hlt
    rw [List.drop_eq_getElem_cons hlt, List.countP_cons] at k
    refine bk_X3_hutsOnLevel_20 C fun _ => ⟨H.1.1, m + 1, H.r63, H.cv, H.vi (i := 0) (by decide), fun h => ?_, fun h => ⟨fun h1 => absurd h0 h1, fun _ => ?_⟩⟩
    · rw [H.v0, nI_leI (by omega) (by omega)] at h; omega
    · refine mLevel H hi fun _ => ⟨fun h => ?_, fun h => ?_⟩
      · rw [nI_1, Int32.add_zero]
        rw [if_neg (by simp [huLv, Int32.not_le.mpr h])] at k
        exact ih (s + 1) t (by omega) (by omega) k
      · rw [nI_1, nI_1]
        rw [if_pos (by simp [huLv, Int32.not_lt.mp h])] at k
        exact ih (s + 1) (t + 1) (by omega) (by omega) (by rw [show t + 1 + ((rH r).drop (s + 1)).countP (huLv x) = t + (((rH r).drop (s + 1)).countP (huLv x) + 1) by omega]; exact k)
theorem mHutsOnLevel (H : MV w μ m r) {x : Int32} (k1 : ¬ (0 ≤ x ∧ x ≤ nI 4) → ∀ v, K (.inl (some (tI v))) (zsI μ 57 m 1)) (k2 : 0 ≤ x ∧ x ≤ nI 4 → K (.inl (some (tI (nI ((rH r).countP (huLv x)))))) (zsI μ 57 m 0)) : Tr_X3_hutsOnLevel w m x μ mc ms K := by
  refine tr_X3_hutsOnLevel fun _ C _ => mIsLevel fun _ => ?_
  have hl := H.len
  by_cases hx : 0 ≤ x ∧ x ≤ nI 4
  · rw [if_pos hx]
    refine ⟨fun h => absurd h one0, fun _ => ⟨H.1.1, fun μ1 e => ?_⟩⟩
    subst e
    refine mHutsOnLevelL C (H.t 0) (zI57 _ _ _) x _ 0 0 rfl (Nat.zero_le _) ?_
    rw [Nat.zero_add]; exact k2 hx
  · rw [if_neg hx]
    refine ⟨fun _ => ⟨H.1.1, fun μ1 e => ?_⟩, fun h => absurd rfl h⟩
    subst e
    have H1 := H.t 1
    refine bk_X3_hutsOnLevel_20 C fun _ => ⟨H.1.1, m + 1, H1.r63, H1.cv, H1.vi (i := 0) (by decide), fun _ => k1 hx _, fun _ => ⟨fun _ => k1 hx _, fun h => ?_⟩⟩
    rw [zI57] at h; exact absurd h one0
end HM2
