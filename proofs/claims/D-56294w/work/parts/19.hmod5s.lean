/-! Plain laws: the hikers in their order. -/
set_option maxRecDepth 100000
theorem bfr_of {l : List Hk} {k o : Nat} (hk : k < l.length) (ho : o < l.length) : bfr l k o = decide (l[k].2.2 < l[o].2.2 ∨ (l[k].2.2 = l[o].2.2 ∧ o < k)) := by
  unfold bfr; rw [List.getElem?_eq_getElem hk, List.getElem?_eq_getElem ho]
theorem bfr_irr {l : List Hk} {k : Nat} (hk : k < l.length) : bfr l k k = false := by
  rw [bfr_of hk hk]; simp
theorem bfr_asy {l : List Hk} {k o : Nat} (hk : k < l.length) (ho : o < l.length) (h : bfr l k o = true) : bfr l o k = false := by
  rw [bfr_of hk ho] at h; rw [bfr_of ho hk]; simp at h ⊢; omega
theorem bfr_tot {l : List Hk} {k o : Nat} (hk : k < l.length) (ho : o < l.length) (hne : k ≠ o) (h : bfr l k o = false) : bfr l o k = true := by
  rw [bfr_of hk ho] at h; rw [bfr_of ho hk]; simp at h ⊢; omega
/-- c ahead of b, b ahead of a -/
theorem bfr_tr {l : List Hk} {a b c : Nat} (ha : a < l.length) (hb : b < l.length) (hc : c < l.length) (h1 : bfr l a b = true) (h2 : bfr l b c = true) : bfr l a c = true := by
  rw [bfr_of ha hb] at h1; rw [bfr_of hb hc] at h2; rw [bfr_of ha hc]; simp at h1 h2 ⊢; omega
/-- k goes ahead of the first one that it comes ahead of -/
def insA (l : List Hk) (k : Nat) : List Nat → List Nat
  | [] => [k]
  | a :: L => if bfr l a k then k :: a :: L else a :: insA l k L
def srtN (l : List Hk) : Nat → List Nat
  | 0 => []
  | n + 1 => insA l n (srtN l n)
def srt (l : List Hk) : List Nat := srtN l l.length
theorem insA_perm (l : List Hk) (k : Nat) : ∀ L, (insA l k L).Perm (k :: L)
  | [] => List.Perm.refl _
  | a :: L => by
    unfold insA
    split
    · exact List.Perm.refl _
    · exact ((insA_perm l k L).cons a).trans (List.Perm.swap k a L)
theorem srtN_perm (l : List Hk) : ∀ n, (srtN l n).Perm (List.range n)
  | 0 => List.Perm.refl _
  | n + 1 => by
    unfold srtN
    rw [List.range_succ]
    exact ((insA_perm l n _).trans ((srtN_perm l n).cons n)).trans (List.perm_append_singleton n _).symm
theorem insA_sorted {l : List Hk} {k : Nat} (hk : k < l.length) : ∀ L : List Nat, (∀ a ∈ L, a < l.length ∧ a ≠ k) → L.Pairwise (fun i j => bfr l j i = true) → (insA l k L).Pairwise (fun i j => bfr l j i = true)
  | [], _, _ => by unfold insA; exact List.pairwise_singleton _ _
  | a :: L, hL, hp => by
    obtain ⟨ha, hne⟩ := hL a List.mem_cons_self
    obtain ⟨h1, h2⟩ := List.pairwise_cons.mp hp
    unfold insA
    split
    · rename_i hb
      refine List.pairwise_cons.mpr ⟨fun b hb2 => ?_, hp⟩
      rcases List.mem_cons.mp hb2 with rfl | hb3
      · exact hb
      · exact bfr_tr (hL b (List.mem_cons_of_mem _ hb3)).1 ha hk (h1 b hb3) hb
    · rename_i hb
      have hb' : bfr l a k = false := by simpa using hb
      refine List.pairwise_cons.mpr ⟨fun b hb2 => ?_, insA_sorted hk L (fun c hc => hL c (List.mem_cons_of_mem _ hc)) h2⟩
      rcases List.mem_cons.mp ((insA_perm l k L).mem_iff.mp hb2) with rfl | hb3
      · exact bfr_tot ha hk hne hb'
      · exact h1 b hb3
theorem srtN_mem {l : List Hk} {n a : Nat} : a ∈ srtN l n ↔ a < n := by rw [(srtN_perm l n).mem_iff, List.mem_range]
theorem srtN_sorted (l : List Hk) : ∀ n, n ≤ l.length → (srtN l n).Pairwise (fun i j => bfr l j i = true)
  | 0, _ => List.Pairwise.nil
  | n + 1, h => by
    unfold srtN
    refine insA_sorted (by omega) _ (fun a ha => ?_) (srtN_sorted l n (by omega))
    have := srtN_mem.mp ha
    omega
theorem srt_len (l : List Hk) : (srt l).length = l.length := by
  have := (srtN_perm l l.length).length_eq
  rw [List.length_range] at this; exact this
theorem countP_before {l : List Hk} : ∀ (L : List Nat) (q : Nat) (k : Nat), (∀ a ∈ L, a < l.length) → L.Pairwise (fun i j => bfr l j i = true) → L[q]? = some k → L.countP (bfr l k) = q
  | [], _, _, _, _, h => by cases h
  | a :: L, 0, k, hL, hp, h => by
    have e : a = k := by simpa using h
    subst e
    obtain ⟨h1, -⟩ := List.pairwise_cons.mp hp
    have ha := hL a List.mem_cons_self
    rw [List.countP_cons_of_neg (by rw [bfr_irr ha]; simp), List.countP_eq_zero]
    intro b hb
    rw [bfr_asy (hL b (List.mem_cons_of_mem _ hb)) ha (h1 b hb)]; simp
  | a :: L, q + 1, k, hL, hp, h => by
    obtain ⟨h1, h2⟩ := List.pairwise_cons.mp hp
    have h' : L[q]? = some k := by simpa using h
    rw [List.countP_cons_of_pos (h1 k (List.mem_of_getElem? h')), countP_before L q k (fun b hb => hL b (List.mem_cons_of_mem _ hb)) h2 h']
theorem rk_srt {l : List Hk} {q k : Nat} (h : (srt l)[q]? = some k) : k < l.length ∧ rk l k = q := by
  have hm : k < l.length := srtN_mem.mp (List.mem_of_getElem? h)
  refine ⟨hm, ?_⟩
  have h1 := countP_before (l := l) (srt l) q k (fun a ha => srtN_mem.mp ha) (srtN_sorted l _ (Nat.le_refl _)) h
  unfold srt at h1
  rw [(srtN_perm l l.length).countP_eq] at h1
  unfold rk rc
  rw [Nat.sub_zero, ← List.range_eq_range']; exact h1
theorem rk_lt {l : List Hk} {k : Nat} (hk : k < l.length) : rk l k < l.length := by
  obtain ⟨q, hq⟩ := List.getElem?_of_mem ((srtN_mem (l := l) (n := l.length)).mpr hk)
  have h2 := (rk_srt (show (srt l)[q]? = some k from hq)).2
  have h3 := (List.getElem?_eq_some_iff.mp hq).1
  have h4 := srt_len l
  unfold srt at h4
  omega
/-- the hiker at a rank is the one there in the sorted row -/
theorem rkd_srt {l : List Hk} (hl : l.length ≤ 1000) {q : Nat} : rkd l (nI q) = (srt l)[q]? ∨ 2 ^ 31 ≤ q := by
  by_cases hq0 : 2 ^ 31 ≤ q
  · exact Or.inr hq0
  refine Or.inl ?_
  cases e : (srt l)[q]? with
  | some k =>
    obtain ⟨hk, hr⟩ := rk_srt e
    cases e2 : rkd l (nI q) with
    | none =>
      exfalso
      unfold rkd fN at e2
      rw [List.find?_eq_none] at e2
      refine e2 k ?_ ?_
      · rw [List.mem_range'_1]; omega
      · simp [hr]
    | some k2 =>
      obtain ⟨-, h2, h3⟩ := fN_some e2
      have h4 : rk l k2 = q := by
        have := rk_lt h2
        exact (nI_eq (by omega) (by omega)).mp (of_decide_eq_true h3)
      obtain ⟨q2, hq2⟩ := List.getElem?_of_mem ((srtN_mem (l := l) (n := l.length)).mpr h2)
      have h5 := (rk_srt (show (srt l)[q2]? = some k2 from hq2)).2
      have h6 : q2 = q := by omega
      subst h6
      exact (hq2.symm.trans e)
  | none =>
    have hlen : l.length ≤ q := by
      have := List.getElem?_eq_none_iff.mp e
      rw [srt_len] at this; exact this
    cases e2 : rkd l (nI q) with
    | none => rfl
    | some k2 =>
      exfalso
      obtain ⟨-, h2, h3⟩ := fN_some e2
      have := rk_lt h2
      have h4 := (nI_eq (by omega) (by omega)).mp (of_decide_eq_true h3)
      omega
