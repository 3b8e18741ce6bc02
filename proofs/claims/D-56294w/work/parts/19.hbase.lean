/-! Pure data of the ridge; the model's memory. -/
set_option maxRecDepth 100000
abbrev Hu : Type := Nat × Nat × Nat × Nat
abbrev Hk : Type := Nat × Nat × Nat
abbrev Ri : Type := List Hu × Nat × Nat × List Hk × Nat × Nat
def rH (r : Ri) : List Hu := r.1
def rS (r : Ri) : Nat := r.2.1
def rN (r : Ri) : Nat := r.2.2.1
def rK (r : Ri) : List Hk := r.2.2.2.1
def rB (r : Ri) : Nat := r.2.2.2.2.1
def rR (r : Ri) : Nat := r.2.2.2.2.2
def huOk (h : Hu) : Prop := h.1 ≤ 99 ∧ h.2.1 ≤ 4 ∧ 1 ≤ h.2.2.1 ∧ h.2.2.1 ≤ 4 ∧ h.2.2.2 < 2 ^ (h.2.1 + 1)
def hkOk (n : Nat) (k : Hk) : Prop := k.1 < n ∧ k.2.1 ≤ 99 ∧ 1 ≤ k.2.2 ∧ k.2.2 ≤ 9
def rOk (r : Ri) : Prop := (rH r).length ≤ 16 ∧ (rH r).Pairwise (fun a b => a.1 < b.1) ∧ (∀ h ∈ rH r, huOk h) ∧ rS r < 32 ∧ (rK r).length ≤ 8 ∧ (rK r).Pairwise (fun a b => a.1 < b.1) ∧ (∀ k ∈ rK r, hkOk (rN r) k) ∧ rN r ≤ 1000000 ∧ rB r ≤ 1000000 ∧ rR r ≤ 1000000
def oI (o : Option Nat) : Int32 := match o with
  | none => -1
  | some i => nI i
/-- the first place from s on where p holds -/
def fIx {α : Type} (p : α → Bool) (l : List α) (s : Nat) : Option Nat := ((l.drop s).findIdx? p).map (fun i => i + s)
theorem fIx_end {α : Type} {p : α → Bool} {l : List α} {s : Nat} (h : l.length ≤ s) : fIx p l s = none := by
  unfold fIx; rw [List.drop_eq_nil_of_le h]; rfl
theorem fIx_yes {α : Type} {p : α → Bool} {l : List α} {s : Nat} {a : α} (h : l[s]? = some a) (hp : p a = true) : fIx p l s = some s := by
  obtain ⟨hs, e⟩ := List.getElem?_eq_some_iff.mp h
  unfold fIx; rw [List.drop_eq_getElem_cons hs, e, List.findIdx?_cons, if_pos hp]; simp
theorem fIx_no {α : Type} {p : α → Bool} {l : List α} {s : Nat} {a : α} (h : l[s]? = some a) (hp : p a = false) : fIx p l s = fIx p l (s + 1) := by
  obtain ⟨hs, e⟩ := List.getElem?_eq_some_iff.mp h
  unfold fIx; rw [List.drop_eq_getElem_cons hs, e, List.findIdx?_cons, if_neg (by simp [hp])]
  cases (l.drop (s + 1)).findIdx? p <;> simp
  omega
theorem fIx_some {α : Type} {p : α → Bool} {l : List α} {s i : Nat} (h : fIx p l s = some i) : s ≤ i ∧ ∃ a, l[i]? = some a ∧ p a = true := by
  unfold fIx at h
  cases e : (l.drop s).findIdx? p with
  | none => rw [e] at h; cases h
  | some j =>
    rw [e] at h
    have hj : j + s = i := by simpa using h
    obtain ⟨hlt, hp, -⟩ := List.findIdx?_eq_some_iff_getElem.mp e
    refine ⟨by omega, (l.drop s)[j], ?_, hp⟩
    rw [← hj, List.getElem?_eq_some_iff]
    have : j + s < l.length := by simp at hlt; omega
    refine ⟨this, ?_⟩
    simp [List.getElem_drop, Nat.add_comm]
def mLen (k : Nat) : Nat := match k with
  | 0 => 94 | 1 => 94 | 2 => 94 | 3 => 752 | 4 => 80 | 5 => 16 | 6 => 8 | 7 => 60 | 8 => 64 | 9 => 10 | 10 => 52 | 11 => 11 | _ => 30
def MA (w : WT) (μ : Mem) (m : Nat) : Prop := zC μ m = 18 ∧ zB w ≤ m ∧ ∀ k, k < 13 → zR μ (63 + k) m = some (m + 1 + k) ∧ zC μ (m + 1 + k) = 101 ∧ zN μ (m + 1 + k) = mLen k
section MAS
variable {w : WT} {μ μ' μ'' : Mem} {m : Nat}
theorem MA.r (H : MA w μ m) (k : Nat) (h : k < 13) : zR μ (63 + k) m = some (m + 1 + k) := (H.2.2 k h).1
theorem MA.c (H : MA w μ m) (k : Nat) (h : k < 13) : zC μ (m + 1 + k) = 101 := (H.2.2 k h).2.1
theorem MA.n (H : MA w μ m) (k : Nat) (h : k < 13) : zN μ (m + 1 + k) = mLen k := (H.2.2 k h).2.2
theorem MA.i (H : MA w μ m) (k i : Nat) (h : k < 13) (hi : i < mLen k) : vp_in (nI i) (zN μ (m + 1 + k)) := by
  rw [H.n k h]
  refine vp_in_nI hi ?_
  have : mLen k ≤ 752 := by unfold mLen; split <;> decide
  omega
theorem MA.b (H : MA w μ m) (k : Nat) : zB w ≤ m + 1 + k := by have := H.2.1; omega
/-- the rest of the memory stays -/
def MF (m : Nat) (μ μ' : Mem) : Prop := (∀ a, zC μ' a = zC μ a) ∧ (∀ a, zN μ' a = zN μ a) ∧ (∀ g a, zR μ' g a = zR μ g a) ∧ (∀ a i, zQ μ' a i = zQ μ a i) ∧ (∀ a i, zJ μ' a i = zJ μ a i) ∧ (∀ a i, zD μ' a i = zD μ a i) ∧ zS μ' = zS μ ∧ (∀ g a, a ≠ m → zI μ' g a = zI μ g a) ∧ (∀ a i, ¬ (m < a ∧ a < m + 14) → zA μ' a i = zA μ a i)
theorem MF.refl (m : Nat) (μ : Mem) : MF m μ μ := ⟨fun _ => rfl, fun _ => rfl, fun _ _ => rfl, fun _ _ => rfl, fun _ _ => rfl, fun _ _ => rfl, rfl, fun _ _ _ => rfl, fun _ _ _ => rfl⟩
theorem MF.trans (h : MF m μ μ') (h' : MF m μ' μ'') : MF m μ μ'' := by
  obtain ⟨a1, a2, a3, a4, a5, a6, a7, a8, a9⟩ := h
  obtain ⟨b1, b2, b3, b4, b5, b6, b7, b8, b9⟩ := h'
  exact ⟨fun a => (b1 a).trans (a1 a), fun a => (b2 a).trans (a2 a), fun g a => (b3 g a).trans (a3 g a), fun a i => (b4 a i).trans (a4 a i), fun a i => (b5 a i).trans (a5 a i), fun a i => (b6 a i).trans (a6 a i), b7.trans a7, fun g a h => (b8 g a h).trans (a8 g a h), fun a i h => (b9 a i h).trans (a9 a i h)⟩
theorem MF.sI (m : Nat) (μ : Mem) (g : Nat) (v : Int32) : MF m μ (zsI μ g m v) := ⟨fun _ => rfl, fun _ => rfl, fun _ _ => rfl, fun _ _ => rfl, fun _ _ => rfl, fun _ _ => rfl, rfl, fun g' a h => (by rw [zI_zsI, if_neg h]; simp), fun _ _ _ => rfl⟩
theorem MF.sA (m : Nat) (μ : Mem) (k i : Nat) (v : Int32) (hk : k < 13) : MF m μ (zsA μ (m + 1 + k) i v) := ⟨fun _ => rfl, fun _ => rfl, fun _ _ => rfl, fun _ _ => rfl, fun _ _ => rfl, fun _ _ => rfl, rfl, fun _ _ _ => rfl, fun a j h => by rw [zA_zsA, if_neg (by omega)]⟩
theorem MA.mf (H : MA w μ m) (h : MF m μ μ') : MA w μ' m := by
  obtain ⟨a1, a2, a3, -⟩ := h
  exact ⟨(a1 m).trans H.1, H.2.1, fun k hk => ⟨(a3 _ _).trans (H.r k hk), (a1 _).trans (H.c k hk), (a2 _).trans (H.n k hk)⟩⟩
end MAS
/-- the row of ints that holds a ridge -/
def VA (v : Nat → Int32) (r : Ri) : Prop := v 0 = nI (rH r).length ∧ v 1 = nI (rS r) ∧ v 2 = nI (rN r) ∧ v 3 = nI (rK r).length ∧ v 4 = nI (rB r) ∧ v 5 = nI (rR r) ∧
  (∀ i h, (rH r)[i]? = some h → v (6 + 4 * i) = nI h.1 ∧ v (6 + 4 * i + 1) = nI h.2.1 ∧ v (6 + 4 * i + 2) = nI h.2.2.1 ∧ v (6 + 4 * i + 3) = nI h.2.2.2) ∧
  (∀ i k, (rK r)[i]? = some k → v (70 + 3 * i) = nI k.1 ∧ v (70 + 3 * i + 1) = nI k.2.1 ∧ v (70 + 3 * i + 2) = nI k.2.2)
def MV (w : WT) (μ : Mem) (m : Nat) (r : Ri) : Prop := MA w μ m ∧ VA (zA μ (m + 1)) r ∧ rOk r
section MVS
variable {w : WT} {μ : Mem} {m : Nat} {r : Ri} {mc ms : Nat} {K : Out → Mem → Prop}
theorem rOk.lt {i : Nat} {h : Hu} (H : rOk r) (hi : (rH r)[i]? = some h) : i < 16 := by
  have := (List.getElem?_eq_some_iff.mp hi).1
  have := H.1
  omega
theorem rOk.hu {i : Nat} {h : Hu} (H : rOk r) (hi : (rH r)[i]? = some h) : huOk h := H.2.2.1 h (List.mem_of_getElem? hi)
theorem rOk.hk {i : Nat} {k : Hk} (H : rOk r) (hi : (rK r)[i]? = some k) : hkOk (rN r) k := H.2.2.2.2.2.2.1 k (List.mem_of_getElem? hi)
theorem rOk.ltk {i : Nat} {h : Hk} (H : rOk r) (hi : (rK r)[i]? = some h) : i < 8 := by
  have := (List.getElem?_eq_some_iff.mp hi).1
  have := H.2.2.2.2.1
  omega
theorem mIsIn {x lo hi : Int32} (k : K (.inl (some (tI (if lo ≤ x ∧ x ≤ hi then 1 else 0)))) μ) : Tr_X3_isIn w x lo hi μ mc ms K := by
  refine tr_X3_isIn fun _ => ⟨fun h => ?_, fun h => ⟨fun h2 => ?_, fun h2 => ?_⟩⟩
  · rw [if_neg (by rintro ⟨h1, h2⟩; exact absurd h (Int32.not_lt.mpr h1))] at k; exact k
  · rw [if_neg (by rintro ⟨h1, h3⟩; exact absurd h2 (Int32.not_lt.mpr h3))] at k; exact k
  · rw [if_pos ⟨Int32.not_lt.mp h, Int32.not_lt.mp h2⟩] at k; exact k
theorem mOf {i x : Nat} {X : Int32} (hX : X = nI x) (k : K (.inl (some (tI (nI (6 + 4 * i + x))))) μ) : Tr_X3_of w (nI i) X μ mc ms K := by
  subst hX
  refine tr_X3_of fun _ => ?_
  rw [pk_mul, nI_add, nI_add]; exact k
theorem mHiking {i x : Nat} {X : Int32} (hX : X = nI x) (k : K (.inl (some (tI (nI (70 + 3 * i + x))))) μ) : Tr_X3_hiking w (nI i) X μ mc ms K := by
  subst hX
  refine tr_X3_hiking fun _ => ?_
  rw [pk_mul, nI_add, nI_add]; exact k
theorem mAt {i : Nat} {h : Hu} (H : MV w μ m r) (hi : (rH r)[i]? = some h) (k : K (.inl (some (tI (nI h.1)))) μ) : Tr_X3_at w m (nI i) μ mc ms K := by
  have hlt := H.2.2.lt hi
  refine tr_X3_at fun _ => ⟨H.1.1, mOf (x := 0) rfl fun _ => ⟨m + 1, H.1.r 0 (by decide), H.1.c 0 (by decide), H.1.i 0 _ (by decide) (show 6 + 4 * i + 0 < 94 by omega), ?_⟩⟩
  rw [show (nI (6 + 4 * i + 0)).toNatClampNeg = 6 + 4 * i from nI_clamp (by omega), (H.2.1.2.2.2.2.2.2.1 i h hi).1]; exact k
theorem mLevel {i : Nat} {h : Hu} (H : MV w μ m r) (hi : (rH r)[i]? = some h) (k : K (.inl (some (tI (nI h.2.1)))) μ) : Tr_X3_level w m (nI i) μ mc ms K := by
  have hlt := H.2.2.lt hi
  refine tr_X3_level fun _ => ⟨H.1.1, mOf (x := 1) rfl fun _ => ⟨m + 1, H.1.r 0 (by decide), H.1.c 0 (by decide), H.1.i 0 _ (by decide) (show 6 + 4 * i + 1 < 94 by omega), ?_⟩⟩
  rw [nI_clamp (by omega), (H.2.1.2.2.2.2.2.2.1 i h hi).2.1]; exact k
end MVS
