/-! The model's questions: paths, searching, ranks. -/
set_option maxRecDepth 100000
section HM3
variable {w : WT} {g : GT} {μ : Mem} {m : Nat} {r : Ri} {mc ms kc ks : Nat} {K : Out → Mem → Prop}
theorem two0 : ¬ (nI 2 : Int32) = 0 := by decide
def bitN (b j : Nat) : Bool := decide (b / 2 ^ j % 2 = 1)
theorem mIsShut (H : MV w μ m r) {i j : Nat} {h : Hu} (hi : (rH r)[i]? = some h) (hj : j ≤ 4) (k : K (.inl (some (tI (if bitN h.2.2.2 j then 1 else 0)))) μ) : Tr_X3_isShut w m (nI i) (nI j) μ mc ms K := by
  have hlt := H.2.2.lt hi
  have hb := (H.2.2.hu hi).b
  refine tr_X3_isShut fun _ => ⟨H.1.1, mOf (x := 3) rfl fun _ => ⟨m + 1, H.r63, H.cv, H.vi (by omega), ?_⟩⟩
  rw [show (nI (6 + 4 * i + 3)).toNatClampNeg = 6 + 4 * i + 3 from nI_clamp (by omega), (H.hut hi).2.2.2, zBit _ hb j (by omega)]
  have h2 : h.2.2.2 / 2 ^ j % 2 < 2 := Nat.mod_lt _ (by decide)
  unfold bitN at k
  rw [← nI_0, show (1 : Int32) = nI 1 from rfl]
  refine ⟨fun hne => ?_, fun he => ?_⟩
  · rw [if_neg (fun e => hne (congrArg nI (of_decide_eq_true e)))] at k; exact k
  · rw [if_pos (decide_eq_true ((nI_eq (by omega) (by decide)).mp he))] at k; exact k
def usa (r : Ri) (i j : Nat) (h : Hu) : Bool := (fIx (huLv (nI j)) (rH r) (i + 1)).isSome && !bitN h.2.2.2 j && !bitN (rS r) j
theorem oI_none : oI none = -1 := rfl
theorem oI_some (i : Nat) : oI (some i) = nI i := rfl
theorem m1neg : (-1 : Int32) < 0 := by decide
theorem m1npos : ¬ (0 : Int32) ≤ -1 := by decide
theorem mIsUsable (H : MV w μ m r) {i j : Nat} {h : Hu} (hi : (rH r)[i]? = some h) (hj : j ≤ 4) (k : K (.inl (some (tI (if usa r i j h then 1 else 0)))) μ) : Tr_X3_isUsable w m (nI i) (nI j) μ mc ms K := by
  have hlt := H.2.2.lt hi
  unfold usa at k
  refine tr_X3_isUsable fun _ => ⟨H.1.1, mNext H (by omega) fun _ => ?_⟩
  cases e : fIx (huLv (nI j)) (rH r) (i + 1) with
  | none =>
    rw [e] at k
    exact ⟨fun _ => k, fun hn => absurd m1neg hn⟩
  | some q =>
    rw [e] at k
    obtain ⟨-, h', hi', -⟩ := fIx_some e
    have hq := H.2.2.lt hi'
    refine ⟨fun hn => absurd hn (nI_pos (by omega)), fun _ => ⟨H.1.1, mIsShut H hi hj fun _ => ?_⟩⟩
    have hs := H.2.2.2.2.2.1
    cases e2 : bitN h.2.2.2 j with
    | true =>
      rw [e2] at k
      exact ⟨fun _ => k, fun hn => absurd hn one0⟩
    | false =>
      rw [e2] at k
      refine ⟨fun hn => absurd rfl hn, fun _ => ⟨H.1.1, m + 1, H.r63, H.cv, H.vi (i := 1) (by decide), ?_⟩⟩
      rw [H.v1, zBit _ hs j (by omega)]
      have h2 : rS r / 2 ^ j % 2 < 2 := Nat.mod_lt _ (by decide)
      unfold bitN at k
      refine ⟨fun hne => ?_, fun he => ?_⟩
      · have : rS r / 2 ^ j % 2 = 1 := by
          have : rS r / 2 ^ j % 2 ≠ 0 := fun z => hne (by rw [z]; rfl)
          omega
        rw [if_neg (by simp [this])] at k; exact k
      · have := (nI_eq (by omega) (by decide)).mp (he.trans nI_0.symm)
        rw [if_pos (by simp [this])] at k; exact k
/-- a path: of a hut, on a level; isLeading: to another hut -/
theorem mLooks (H : MV w μ m r) {x n : Int32} {ld : Bool} (k1 : ¬ (0 ≤ n ∧ n ≤ nI 4) → K (.inl (some (tI 0))) (zsI μ 57 m 1))
    (k2 : (0 ≤ n ∧ n ≤ nI 4) → (∀ i h, fIx (huAt x) (rH r) 0 = some i → (rH r)[i]? = some h → n ≤ nI h.2.1 → ld = true ∧ fIx (huLv n) (rH r) (i + 1) = none) → K (.inl (some (tI 0))) (zsI μ 57 m (nI 2)))
    (k3 : (0 ≤ n ∧ n ≤ nI 4) → ∀ i h, fIx (huAt x) (rH r) 0 = some i → (rH r)[i]? = some h → n ≤ nI h.2.1 → (ld = true → ∃ j, fIx (huLv n) (rH r) (i + 1) = some j) → K (.inl (some (tI 1))) (zsI μ 57 m 0)) :
    Tr_X3_looksAtPath w m x n (if ld then 1 else 0) μ mc ms K := by
  refine tr_X3_looksAtPath fun g C _ => ⟨H.1.1, mHut H fun _ => ?_⟩
  have no : (¬ (0 ≤ n ∧ n ≤ nI 4) ∨ (∀ i h, fIx (huAt x) (rH r) 0 = some i → (rH r)[i]? = some h → n ≤ nI h.2.1 → ld = true ∧ fIx (huLv n) (rH r) (i + 1) = none)) → ∀ kc ks, B_X3_looksAtPath_47 w g K mc ms m n μ kc ks := by
    intro hno kc ks
    refine bk_X3_looksAtPath_47 C fun _ => bk_X3_looksAtPath_48 C fun _ => mIsLevel fun _ => ?_
    by_cases hx : 0 ≤ n ∧ n ≤ nI 4
    · rw [if_pos hx]
      refine ⟨fun _ => ⟨fun _ => ⟨H.1.1, fun μ1 e => ⟨⟨by decide, by decide⟩, ?_⟩⟩, fun h => absurd rfl h⟩, fun h => absurd h one0⟩
      subst e
      exact k2 hx (hno.resolve_left (fun h => h hx))
    · rw [if_neg hx]
      refine ⟨fun h => absurd rfl h, fun _ => ⟨H.1.1, fun μ1 e => ⟨⟨by decide, by decide⟩, ?_⟩⟩⟩
      subst e
      exact k1 hx
  cases e : fIx (huAt x) (rH r) 0 with
  | none => exact ⟨fun _ => no (Or.inr (fun i h e' => by rw [e] at e'; cases e')) _ _, fun h => absurd m1neg h⟩
  | some i =>
    obtain ⟨-, h, hi, hp⟩ := fIx_some e
    have hlt := H.2.2.lt hi
    refine ⟨fun hn => absurd hn (nI_pos (by omega)), fun _ => mIsLevel fun _ => ?_⟩
    by_cases hx : 0 ≤ n ∧ n ≤ nI 4
    · rw [if_pos hx]
      refine ⟨fun h => absurd h one0, fun _ => ⟨H.1.1, mLevel H hi fun _ => ⟨fun hl => ?_, fun hl => ?_⟩⟩⟩
      · refine no (Or.inr fun i' h' e' hi' hl' => ?_) _ _
        rw [e] at e'; cases e'; cases hi.symm.trans hi'
        exact absurd hl (Int32.not_lt.mpr hl')
      · have hle : n ≤ nI h.2.1 := Int32.not_lt.mp hl
        have yes : (ld = true → ∃ j, fIx (huLv n) (rH r) (i + 1) = some j) → ∀ kc ks, B_X3_looksAtPath_43 w g K mc ms m n μ kc ks := by
          intro hy kc ks
          refine bk_X3_looksAtPath_43 C fun _ => bk_X3_looksAtPath_48 C fun _ => mIsLevel fun _ => ?_
          rw [if_pos hx]
          refine ⟨fun _ => ⟨fun h => absurd h one0, fun _ => ⟨H.1.1, fun μ1 e1 => ⟨⟨by decide, by decide⟩, ?_⟩⟩⟩, fun h => absurd h one0⟩
          subst e1
          exact k3 hx i h e hi hle hy
        cases ld with
        | false => exact ⟨fun _ => yes (fun h => by cases h) _ _, fun h => absurd rfl h⟩
        | true =>
          refine ⟨fun h => absurd h one0, fun _ => ⟨H.1.1, mNext H (by omega) fun _ => ?_⟩⟩
          cases e2 : fIx (huLv n) (rH r) (i + 1) with
          | none =>
            refine ⟨fun _ => no (Or.inr fun i' h' e' hi' _ => ?_) _ _, fun h => absurd m1neg h⟩
            rw [e] at e'; cases e'
            exact ⟨rfl, e2⟩
          | some j =>
            obtain ⟨-, h', hi', -⟩ := fIx_some e2
            have hq := H.2.2.lt hi'
            exact ⟨fun hn => absurd hn (nI_pos (by omega)), fun _ => yes (fun _ => ⟨j, e2⟩) _ _⟩
    · rw [if_neg hx]
      exact ⟨fun _ => no (Or.inl hx) _ _, fun h => absurd rfl h⟩
theorem mNextHut (H : MV w μ m r) {x n : Int32} (k1 : ¬ (0 ≤ n ∧ n ≤ nI 4) → K (.inl (some (tI 0))) (zsI μ 57 m 1))
    (k2 : (0 ≤ n ∧ n ≤ nI 4) → (∀ i h, fIx (huAt x) (rH r) 0 = some i → (rH r)[i]? = some h → n ≤ nI h.2.1 → fIx (huLv n) (rH r) (i + 1) = none) → K (.inl (some (tI 0))) (zsI μ 57 m (nI 2)))
    (k3 : (0 ≤ n ∧ n ≤ nI 4) → ∀ i h j h', fIx (huAt x) (rH r) 0 = some i → (rH r)[i]? = some h → n ≤ nI h.2.1 → fIx (huLv n) (rH r) (i + 1) = some j → (rH r)[j]? = some h' → K (.inl (some (tI (nI h'.1)))) (zsI μ 57 m 0)) :
    Tr_X3_nextHut w m x n μ mc ms K := by
  refine tr_X3_nextHut fun _ => ⟨H.1.1, mLooks (ld := true) H ?_ ?_ ?_⟩
  · exact fun hx _ => ⟨fun _ => k1 hx, fun h => absurd rfl h⟩
  · exact fun hx hn _ => ⟨fun _ => k2 hx fun i h e hi hl => (hn i h e hi hl).2, fun h => absurd rfl h⟩
  · intro hx i h e hi hl hy _
    obtain ⟨j, hj⟩ := hy rfl
    obtain ⟨-, h', hi', -⟩ := fIx_some hj
    have hlt := H.2.2.lt hi
    have H1 := H.t 0
    refine ⟨fun h => absurd h one0, fun _ => ⟨H.1.1, mHut H1 fun _ => ⟨H.1.1, ?_⟩⟩⟩
    rw [e]
    refine mNext H1 (by omega) fun _ => ⟨H.1.1, ?_⟩
    rw [hj]
    exact mAt H1 hi' fun _ => k3 hx i h j h' e hi hl hj hi'
theorem mIsBlocked (H : MV w μ m r) {x n : Int32} (k1 : ¬ (0 ≤ n ∧ n ≤ nI 4) → K (.inl (some (tI 0))) (zsI μ 57 m 1))
    (k2 : (0 ≤ n ∧ n ≤ nI 4) → (∀ i h, fIx (huAt x) (rH r) 0 = some i → (rH r)[i]? = some h → ¬ n ≤ nI h.2.1) → K (.inl (some (tI 0))) (zsI μ 57 m (nI 2)))
    (k3 : ∀ j, j ≤ 4 → n = nI j → ∀ i h, fIx (huAt x) (rH r) 0 = some i → (rH r)[i]? = some h → n ≤ nI h.2.1 → K (.inl (some (tI (if bitN h.2.2.2 j then 1 else 0)))) (zsI μ 57 m 0)) :
    Tr_X3_isBlocked w m x n μ mc ms K := by
  refine tr_X3_isBlocked fun _ => ⟨H.1.1, mLooks (ld := false) H ?_ ?_ ?_⟩
  · exact fun hx _ => ⟨fun _ => k1 hx, fun h => absurd rfl h⟩
  · exact fun hx hn _ => ⟨fun _ => k2 hx fun i h e hi hl => (by have := (hn i h e hi hl).1; exact absurd this (by decide)), fun h => absurd rfl h⟩
  · intro hx i h e hi hl _ _
    have H1 := H.t 0
    obtain ⟨j, hj, en⟩ := lvOf hx
    refine ⟨fun h => absurd h one0, fun _ => ⟨H.1.1, mHut H1 fun _ => ⟨H.1.1, ?_⟩⟩⟩
    rw [e, en]
    refine mIsShut H1 hi hj fun _ => ?_
    have k4 := k3 j hj en i h e hi hl
    cases hb : bitN h.2.2.2 j with
    | true => rw [hb] at k4; exact ⟨fun h => absurd h one0, fun _ => k4⟩
    | false => rw [hb] at k4; exact ⟨fun _ => k4, fun h => absurd rfl h⟩
theorem mIsSnowed (H : MV w μ m r) {n : Int32} (k1 : ¬ (0 ≤ n ∧ n ≤ nI 4) → K (.inl (some (tI 0))) (zsI μ 57 m 1))
    (k3 : ∀ j, j ≤ 4 → n = nI j → K (.inl (some (tI (if bitN (rS r) j then 1 else 0)))) (zsI μ 57 m 0)) : Tr_X3_isSnowed w m n μ mc ms K := by
  refine tr_X3_isSnowed fun _ C _ => mIsLevel fun _ => ?_
  by_cases hx : 0 ≤ n ∧ n ≤ nI 4
  · rw [if_pos hx]
    refine ⟨fun h => absurd h one0, fun _ => bk_X3_isSnowed_13 C fun _ => ⟨m, rfl, H.1.1, fun μ1 e => ?_⟩⟩
    subst e
    have H1 := H.t 0
    obtain ⟨j, hj, en⟩ := lvOf hx
    refine ⟨H.1.1, fun h => absurd (zI57 _ _ _) h, fun _ => ⟨m + 1, H1.r63, H1.cv, H1.vi (i := 1) (by decide), ?_⟩⟩
    have hs := H.2.2.2.2.2.1
    rw [H1.v1, en, zBit _ hs j (by omega)]
    have h2 : rS r / 2 ^ j % 2 < 2 := Nat.mod_lt _ (by decide)
    have k4 := k3 j hj en
    unfold bitN at k4
    rw [show (1 : Int32) = nI 1 from rfl] at *
    refine ⟨fun hne => ?_, fun he => ?_⟩
    · rw [if_neg (fun e => hne (congrArg nI (of_decide_eq_true e)))] at k4; exact k4
    · rw [if_pos (decide_eq_true ((nI_eq (by omega) (by decide)).mp he))] at k4; exact k4
  · rw [if_neg hx]
    refine ⟨fun _ => bk_X3_isSnowed_13 C fun _ => ⟨m, rfl, H.1.1, fun μ1 e => ?_⟩, fun h => absurd rfl h⟩
    subst e
    refine ⟨H.1.1, fun _ => k1 hx, fun h => ?_⟩
    rw [zI57] at h; exact absurd h one0
end HM3
