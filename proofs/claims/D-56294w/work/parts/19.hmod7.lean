/-! The model's times. -/
set_option maxRecDepth 100000
def lvN (n : Nat) (h : Hu) : Bool := decide (n ≤ h.2.1)
theorem fIx_congr {α : Type} {p q : α → Bool} {l : List α} (h : ∀ a ∈ l, p a = q a) (s : Nat) : fIx p l s = fIx q l s := by
  have key : ∀ n s, n = l.length - s → fIx p l s = fIx q l s := by
    intro n
    induction n with
    | zero => intro s hn; rw [fIx_end (by omega), fIx_end (by omega)]
    | succ n ih =>
      intro s hn
      have hlt : s < l.length := by omega
      have hi : l[s]? = some l[s] := List.getElem?_eq_getElem hlt
      have he := h l[s] (List.getElem_mem hlt)
      cases hp : p l[s] with
      | true => rw [fIx_yes hi hp, fIx_yes hi (he ▸ hp)]
      | false => rw [fIx_no hi hp, fIx_no hi (he ▸ hp)]; exact ih (s + 1) (by omega)
  exact key _ s rfl
theorem huLv_N {r : Ri} (H : rOk r) {n : Nat} (hn : n ≤ 4) (s : Nat) : fIx (huLv (nI n)) (rH r) s = fIx (lvN n) (rH r) s := by
  refine fIx_congr (fun a ha => ?_) s
  have := (H.2.2.1 a ha).2.1
  unfold huLv lvN
  rw [decide_eq_decide, nI_leI (by omega) (by omega)]
/-- a step of a way by the hut at h, on level n: from u to v in c minutes; u, v: five times the rank of the hut, and the level -/
def EdA (r : Ri) (h n u v c : Nat) : Prop := ∃ hu, (rH r)[h]? = some hu ∧ n ≤ hu.2.1 ∧
  ((n < hu.2.1 ∧ c = 1 ∧ ((u = 5 * h + n ∧ v = 5 * h + n + 1) ∨ (v = 5 * h + n ∧ u = 5 * h + n + 1))) ∨
   (usa r h n hu = true ∧ ∃ o ho, fIx (lvN n) (rH r) (h + 1) = some o ∧ (rH r)[o]? = some ho ∧ c = (ho.1 - hu.1 + n) / (n + 1) ∧ ((u = 5 * h + n ∧ v = 5 * o + n) ∨ (v = 5 * h + n ∧ u = 5 * o + n))))
def Ed (r : Ri) (u v c : Nat) : Prop := ∃ h n, EdA r h n u v c
/-- a way of k steps from level 0 of the hut at a to v, of t minutes -/
def Wy (r : Ri) (a : Nat) : Nat → Nat → Nat → Prop
  | 0, v, t => v = 5 * a ∧ t = 0
  | k + 1, v, t => ∃ u c t', Wy r a k u t' ∧ Ed r u v c ∧ t = t' + c
/-- the times: attained -/
def At (r : Ri) (a : Nat) (M : Nat → Nat) : Prop := M (5 * a) = 0 ∧ (∀ u, M u ≤ 1000000) ∧ ∀ u, M u < 1000000 → ∃ k, Wy r a k u (M u)
/-- the times: closed -/
def Cl (r : Ri) (M : Nat → Nat) : Prop := ∀ u v c, Ed r u v c → M v ≤ M u + c
theorem At_le {r : Ri} {a : Nat} {M M' : Nat → Nat} (h0 : M' (5 * a) = 0) (hc : Cl r M') : ∀ k u t, Wy r a k u t → M' u ≤ t
  | 0, u, t, h => by obtain ⟨rfl, rfl⟩ := h; omega
  | k + 1, u, t, h => by
    obtain ⟨u', c, t', h1, h2, rfl⟩ := h
    have := At_le (M := M) h0 hc k u' t' h1
    have := hc u' u c h2
    omega
theorem At_eq {r : Ri} {a : Nat} {M M' : Nat → Nat} (h1 : At r a M) (c1 : Cl r M) (h2 : At r a M') (c2 : Cl r M') (u : Nat) : M u = M' u := by
  have l1 := h1.2.1 u
  have l2 := h2.2.1 u
  by_cases z1 : M u < 1000000
  · obtain ⟨k, hk⟩ := h1.2.2 u z1
    have e1 := At_le (M := M) h2.1 c2 k u _ hk
    obtain ⟨k2, hk2⟩ := h2.2.2 u (by omega)
    have e2 := At_le (M := M) h1.1 c1 k2 u _ hk2
    omega
  · by_cases z2 : M' u < 1000000
    · obtain ⟨k2, hk2⟩ := h2.2.2 u z2
      have e2 := At_le (M := M) h1.1 c1 k2 u _ hk2
      omega
    · omega
def updN (M : Nat → Nat) (u x : Nat) : Nat → Nat := fun v => if v = u then x else M v
theorem At_upd {r : Ri} {a : Nat} {M : Nat → Nat} (h : At r a M) {u v c : Nat} (e : Ed r u v c) (hlt : M u + c < M v) : At r a (updN M v (M u + c)) := by
  obtain ⟨h0, h1, h2⟩ := h
  refine ⟨?_, fun x => ?_, fun x hx => ?_⟩
  · unfold updN
    split
    · rename_i z; subst z; omega
    · exact h0
  · unfold updN
    split
    · have := h1 v; omega
    · exact h1 x
  · unfold updN at hx ⊢
    split
    · rename_i z
      subst z
      have := h1 x
      obtain ⟨k, hk⟩ := h2 u (by omega)
      exact ⟨k + 1, u, c, M u, hk, e, rfl⟩
    · rename_i z
      rw [if_neg z] at hx
      exact h2 x hx
def sumM (M : Nat → Nat) : Nat → Nat
  | 0 => 0
  | n + 1 => sumM M n + M n
theorem sumM_upd {M : Nat → Nat} {u x : Nat} (h : x < M u) : ∀ n, (n ≤ u → sumM (updN M u x) n = sumM M n) ∧ (u < n → sumM (updN M u x) n < sumM M n)
  | 0 => ⟨fun _ => rfl, fun h => absurd h (Nat.not_lt_zero u)⟩
  | n + 1 => by
    obtain ⟨i1, i2⟩ := sumM_upd h n
    refine ⟨fun hn => ?_, fun hn => ?_⟩
    · show sumM (updN M u x) n + updN M u x n = sumM M n + M n
      rw [i1 (by omega)]
      unfold updN; rw [if_neg (by omega)]
    · show sumM (updN M u x) n + updN M u x n < sumM M n + M n
      by_cases z : n = u
      · subst z
        rw [i1 (Nat.le_refl _)]
        have e : updN M n x n = x := by unfold updN; rw [if_pos rfl]
        rw [e]; omega
      · have := i2 (by omega)
        have e : updN M u x n = M n := by unfold updN; rw [if_neg z]
        rw [e]; omega
section HM7
variable {w : WT} {g : GT} {μ : Mem} {m : Nat} {r : Ri} {mc ms kc ks : Nat} {K : Out → Mem → Prop}
theorem MA.r67 (H : MA w μ m) : zR μ 67 m = some (m + 5) := H.r 4 (by decide)
def MM (μ : Mem) (m : Nat) (M : Nat → Nat) : Prop := ∀ u, u < 80 → zA μ (m + 5) u = nI (M u)
theorem mImproves (H : MV w μ m r) {M : Nat → Nat} (hM : MM μ m M) (hb : ∀ u, M u ≤ 1000000) {a b c : Nat} {C : Int32} (hC : C = nI c) (ha : a < 80) (hb2 : b < 80) (hc : c ≤ 1000)
    (k1 : M b + c < M a → ∀ μ', MK m μ μ' → MM μ' m (updN M a (M b + c)) → K (.inl (some (tI 1))) μ') (k0 : M a ≤ M b + c → K (.inl (some (tI 0))) μ) : Tr_X3_improves w m (nI a) (nI b) C μ mc ms K := by
  subst hC
  have h1 := hb a
  have h2 := hb b
  refine tr_X3_improves fun _ => ⟨H.1.1, m + 5, H.1.r67, H.1.c 4 (by decide), H.1.i 4 b (by decide) hb2, H.1.i 4 a (by decide) ha, ?_⟩
  rw [nI_clamp (by omega), nI_clamp (by omega), hM a ha, hM b hb2, nI_add, nI_ltI (by omega) (by omega)]
  refine ⟨fun h => ⟨H.1.i 4 b (by decide) hb2, H.1.b 4, H.1.i 4 a (by decide) ha, fun μ1 e => ?_⟩, fun h => k0 (by omega)⟩
  refine k1 h μ1 (by rw [e]; exact MK.sA m μ 4 a _ (by omega)) fun u hu => ?_
  rw [e, zA_zsA, if_pos rfl]
  unfold updN
  by_cases z : u = a
  · rw [if_pos z, if_pos z]
  · rw [if_neg z, if_neg z]; exact hM u hu
/-- closed as far as the hut at s, its level j -/
def PC (r : Ri) (M : Nat → Nat) (s j : Nat) : Prop := ∀ h n u v c, (h < s ∨ (h = s ∧ n < j)) → EdA r h n u v c → M v ≤ M u + c
/-- a round: what has become of the times M0 -/
def RI (M0 M : Nat → Nat) (t : Nat) (P : (Nat → Nat) → Prop) : Prop := t ≤ 1 ∧ (t = 0 → M = M0 ∧ P M) ∧ (t = 1 → sumM M 80 < sumM M0 80)
theorem RI.mono {M0 M : Nat → Nat} {t : Nat} {P Q : (Nat → Nat) → Prop} (h : RI M0 M t P) (hPQ : P M → Q M) : RI M0 M t Q := ⟨h.1, fun z => ⟨(h.2.1 z).1, hPQ (h.2.1 z).2⟩, h.2.2⟩
theorem orF {t : Nat} (h : t ≤ 1) : (nI t ||| (0 : Int32)) = nI t ∧ (nI t ||| (1 : Int32)) = nI 1 := by
  rcases (show t = 0 ∨ t = 1 by omega) with rfl | rfl <;> decide
theorem mImp (H : MV w μ m r) {M M0 : Nat → Nat} {aa t : Nat} {P : (Nat → Nat) → Prop} (hM : MM μ m M) (hA : At r aa M) (hR : RI M0 M t P) {a b c : Nat} {C : Int32} (hC : C = nI c) (ha : a < 80) (hb2 : b < 80) (hc : c ≤ 1000) (he : Ed r b a c)
    (kk : ∀ μ' M' t' v, MK m μ μ' → MM μ' m M' → At r aa M' → RI M0 M' t' (fun M => P M ∧ M a ≤ M b + c) → nI t ||| v = nI t' → K (.inl (some (tI v))) μ') : Tr_X3_improves w m (nI a) (nI b) C μ mc ms K := by
  obtain ⟨r1, r2, r3⟩ := hR
  refine mImproves H hM hA.2.1 hC ha hb2 hc (fun hlt μ' hk hM' => ?_) (fun hle => ?_)
  · refine kk μ' _ 1 1 hk hM' (At_upd hA he hlt) ⟨Nat.le_refl 1, fun z => absurd z (by decide), fun _ => ?_⟩ (orF r1).2
    have h1 := (sumM_upd (M := M) (u := a) (x := M b + c) hlt 80).2 ha
    rcases (show t = 0 ∨ t = 1 by omega) with z | z
    · rw [(r2 z).1] at h1 ⊢; rw [← (r2 z).1] at h1 ⊢; have e := (r2 z).1; rw [e] at h1; rw [e]; exact h1
    · exact Nat.lt_trans h1 (r3 z)
  · exact kk μ M t 0 (MK.refl _ _) hM hA ⟨r1, fun z => ⟨(r2 z).1, (r2 z).2, hle⟩, r3⟩ (orF r1).1
theorem ed_lt {r : Ri} (H : rOk r) {i j : Nat} {a b : Hu} (hi : (rH r)[i]? = some a) (hj : (rH r)[j]? = some b) (h : i < j) : a.1 < b.1 := by
  obtain ⟨h1, e1⟩ := List.getElem?_eq_some_iff.mp hi
  obtain ⟨h2, e2⟩ := List.getElem?_eq_some_iff.mp hj
  rw [← e1, ← e2]
  exact List.pairwise_iff_getElem.mp H.2.1 i j h1 h2 h
/-- what the caller wants of the times -/
def HkK (w : WT) (m : Nat) (r : Ri) (a : Nat) (μ0 : Mem) (K : Out → Mem → Prop) : Prop := ∀ μ' M', MV w μ' m r → MK m μ0 μ' → MM μ' m M' → At r a M' → Cl r M' → K (.inl none) μ'
theorem mHk56 (C : Cx_X3_hikes w g) {a : Nat} {M0 : Nat → Nat} {μ0 : Mem} {s : Nat} {hu : Hu} (hs : (rH r)[s]? = some hu)
    (k43 : ∀ μ M t, MV w μ m r → MK m μ0 μ → MM μ m M → At r a M → RI M0 M t (fun M => PC r M (s + 1) 0) → B_X3_hikes_43 w g K mc ms m (nI t) (nI (s + 1)) μ kc ks) :
    ∀ n j μ M t, n = hu.2.1 + 1 - j → j ≤ hu.2.1 + 1 → MV w μ m r → MK m μ0 μ → MM μ m M → At r a M → RI M0 M t (fun M => PC r M s j) → B_X3_hikes_56 w g K mc ms m (nI t) (nI s) (nI j) μ kc ks := by
  intro n
  induction n with
  | zero =>
    intro j μ M t hn hj H hk hM hA hR
    have h4 := (H.2.2.hu hs).2.1
    refine bk_X3_hikes_56 C fun _ => ⟨H.1.1, mLevel H hs fun _ => ⟨fun _ => ?_, fun h => ?_⟩⟩
    · rw [nI_1]
      refine k43 μ M t H hk hM hA (hR.mono fun hp h n u v c hh he => ?_)
      rcases hh with hh | ⟨_, hh⟩
      · by_cases z : h = s
        · subst z
          obtain ⟨hu2, e1, e2, -⟩ := id he
          cases hs.symm.trans e1
          exact hp h n u v c (Or.inr ⟨rfl, by omega⟩) he
        · exact hp h n u v c (Or.inl (by omega)) he
      · exact absurd hh (Nat.not_lt_zero _)
    · rw [nI_ltI (by omega) (by omega)] at h; omega
  | succ n ih =>
    intro j μ M t hn hj H hk hM hA hR
    have h4 := (H.2.2.hu hs).2.1
    have hs16 := H.2.2.lt hs
    have hjl : j ≤ hu.2.1 := by omega
    have e5 : nI 5 * nI s + nI j = nI (5 * s + j) := by rw [pk_mul, nI_add]
    -- horizontal steps
    have k112 : ∀ μ M t, MV w μ m r → MK m μ0 μ → MM μ m M → At r a M → RI M0 M t (fun M => PC r M s j ∧ ((j < hu.2.1) → M (5 * s + j + 1) ≤ M (5 * s + j) + 1 ∧ M (5 * s + j) ≤ M (5 * s + j + 1) + 1)) → B_X3_hikes_112 w g K mc ms m (nI t) (nI s) (nI j) (nI (5 * s + j)) μ kc ks := by
      intro μ M t H hk hM hA hR
      refine bk_X3_hikes_112 C fun _ => ⟨H.1.1, mIsUsable H hs (by omega) fun _ => ?_⟩
      cases hus : usa r s j hu with
      | false =>
        refine ⟨fun h => absurd rfl h, fun _ => ?_⟩
        rw [nI_1]
        refine ih (j + 1) μ M t (by omega) (by omega) H hk hM hA (hR.mono fun hp h n u v c hh he => ?_)
        by_cases z : h = s ∧ n = j
        · obtain ⟨rfl, rfl⟩ := z
          obtain ⟨hu2, e1, e2, e3⟩ := he
          cases hs.symm.trans e1
          rcases e3 with ⟨q1, rfl, ⟨rfl, rfl⟩ | ⟨rfl, rfl⟩⟩ | ⟨q1, -⟩
          · exact (hp.2 q1).1
          · exact (hp.2 q1).2
          · rw [hus] at q1; cases q1
        · exact hp.1 h n u v c (by omega) he
      | true =>
        refine ⟨fun _ => ⟨H.1.1, mNext H (by omega) fun _ => ?_⟩, fun h => absurd h one0⟩
        rw [huLv_N H.2.2 (by omega)]
        obtain ⟨o, ho⟩ : ∃ o, fIx (lvN j) (rH r) (s + 1) = some o := by
          rw [← huLv_N H.2.2 (by omega)]
          unfold usa at hus
          simp only [Bool.and_eq_true] at hus
          exact Option.isSome_iff_exists.mp hus.1.1
        obtain ⟨hso, hU, hoU, -⟩ := fIx_some ho
        have hlt := ed_lt H.2.2 hs hoU (by omega)
        have ho16 := H.2.2.lt hoU
        have hp1 := (H.2.2.hu hoU).1
        rw [ho]
        refine ⟨H.1.1, mAt H hoU fun _ => ⟨H.1.1, mAt H hs fun _ => ⟨?_, H.1.1, ?_⟩⟩⟩
        · rw [nI_1]; exact nI_ne0 (by omega) (by omega)
        have eC : (nI hU.1 - nI hu.1 + nI j) / (nI j + 1) = nI ((hU.1 - hu.1 + j) / (j + 1)) := by
          rw [pk_sub (by omega), nI_add, nI_1, pk_div (by omega) (by omega) (by omega)]
        have eO : nI 5 * oI (some o) + nI j = nI (5 * o + j) := by
          show nI 5 * nI o + nI j = _
          rw [pk_mul, nI_add]
        have hcb : (hU.1 - hu.1 + j) / (j + 1) ≤ 1000 := Nat.le_trans (Nat.div_le_self _ _) (by omega)
        rw [eC, eO]
        have ed1 : Ed r (5 * s + j) (5 * o + j) ((hU.1 - hu.1 + j) / (j + 1)) := ⟨s, j, hu, hs, hjl, Or.inr ⟨hus, o, hU, ho, hoU, rfl, Or.inl ⟨rfl, rfl⟩⟩⟩
        have ed2 : Ed r (5 * o + j) (5 * s + j) ((hU.1 - hu.1 + j) / (j + 1)) := ⟨s, j, hu, hs, hjl, Or.inr ⟨hus, o, hU, ho, hoU, rfl, Or.inr ⟨rfl, rfl⟩⟩⟩
        refine mImp H hM hA hR rfl (by omega) (by omega) hcb ed1 fun μ1 M1 t1 v1 hk1 hM1 hA1 hR1 hv1 _ => ⟨(H.mk hk1).1.1, ?_⟩
        have H1 := H.mk hk1
        refine mImp H1 hM1 hA1 hR1 rfl (by omega) (by omega) hcb ed2 fun μ2 M2 t2 v2 hk2 hM2 hA2 hR2 hv2 _ => ?_
        rw [hv1, hv2, nI_1]
        refine ih (j + 1) μ2 M2 t2 (by omega) (by omega) (H1.mk hk2) ((hk.trans hk1).trans hk2) hM2 hA2 (hR2.mono fun hp h n u v c hh he => ?_)
        by_cases z : h = s ∧ n = j
        · obtain ⟨rfl, rfl⟩ := z
          obtain ⟨hu2, e1, e2, e3⟩ := he
          cases hs.symm.trans e1
          rcases e3 with ⟨q1, rfl, ⟨rfl, rfl⟩ | ⟨rfl, rfl⟩⟩ | ⟨-, o2, ho2, f1, f2, rfl, ⟨rfl, rfl⟩ | ⟨rfl, rfl⟩⟩
          · exact (hp.1.1.2 q1).1
          · exact (hp.1.1.2 q1).2
          · cases ho.symm.trans f1; cases hoU.symm.trans f2; exact hp.1.2
          · cases ho.symm.trans f1; cases hoU.symm.trans f2; exact hp.2
        · exact hp.1.1.1 h n u v c (by omega) he
    refine bk_X3_hikes_56 C fun _ => ⟨H.1.1, mLevel H hs fun _ => ⟨fun h => ?_, fun _ => ⟨H.1.1, mLevel H hs fun _ => ⟨fun h => ?_, fun h => ⟨H.1.1, ?_⟩⟩⟩⟩⟩
    · rw [nI_ltI (by omega) (by omega)] at h; omega
    · rw [nI_leI (by omega) (by omega)] at h
      rw [e5]
      exact k112 μ M t H hk hM hA (hR.mono fun hp => ⟨hp, fun z => absurd z (by omega)⟩)
    · rw [nI_leI (by omega) (by omega)] at h
      rw [e5, nI_1]
      have ed1 : Ed r (5 * s + j) (5 * s + j + 1) 1 := ⟨s, j, hu, hs, hjl, Or.inl ⟨by omega, rfl, Or.inl ⟨rfl, rfl⟩⟩⟩
      have ed2 : Ed r (5 * s + j + 1) (5 * s + j) 1 := ⟨s, j, hu, hs, hjl, Or.inl ⟨by omega, rfl, Or.inr ⟨rfl, rfl⟩⟩⟩
      refine mImp H hM hA hR (c := 1) rfl (by omega) (by omega) (by decide) ed1 fun μ1 M1 t1 v1 hk1 hM1 hA1 hR1 hv1 _ => ⟨(H.mk hk1).1.1, ?_⟩
      have H1 := H.mk hk1
      refine mImp H1 hM1 hA1 hR1 (c := 1) rfl (by omega) (by omega) (by decide) ed2 fun μ2 M2 t2 v2 hk2 hM2 hA2 hR2 hv2 _ => ?_
      rw [hv1, hv2]
      exact k112 μ2 M2 t2 (H1.mk hk2) ((hk.trans hk1).trans hk2) hM2 hA2 (hR2.mono fun hp => ⟨hp.1.1, fun _ => ⟨hp.1.2, hp.2⟩⟩)
theorem mHk43 (C : Cx_X3_hikes w g) {a : Nat} {M0 : Nat → Nat} {μ0 : Mem}
    (k35 : ∀ μ M t, MV w μ m r → MK m μ0 μ → MM μ m M → At r a M → RI M0 M t (fun M => Cl r M) → B_X3_hikes_35 w g K mc ms m (nI t) μ kc ks) :
    ∀ n s μ M t, n = (rH r).length - s → s ≤ (rH r).length → MV w μ m r → MK m μ0 μ → MM μ m M → At r a M → RI M0 M t (fun M => PC r M s 0) → B_X3_hikes_43 w g K mc ms m (nI t) (nI s) μ kc ks := by
  intro n
  induction n with
  | zero =>
    intro s μ M t hn hs H hk hM hA hR
    have hl := H.len
    refine bk_X3_hikes_43 C fun _ => ⟨H.1.1, m + 1, H.r63, H.cv, H.vi (i := 0) (by decide), fun _ => ?_, fun h => ?_⟩
    · refine k35 μ M t H hk hM hA (hR.mono fun hp u v c ⟨h, n, he⟩ => hp h n u v c (Or.inl ?_) he)
      obtain ⟨hu, e1, -⟩ := he
      have := (List.getElem?_eq_some_iff.mp e1).1
      omega
    · rw [H.v0, nI_leI (by omega) (by omega)] at h; omega
  | succ n ih =>
    intro s μ M t hn hs H hk hM hA hR
    have hl := H.len
    have hlt : s < (rH r).length := by omega
    have hi : (rH r)[s]? = some (rH r)[s] := List.getElem?_eq_getElem hlt
    refine bk_X3_hikes_43 C fun _ => ⟨H.1.1, m + 1, H.r63, H.cv, H.vi (i := 0) (by decide), fun h => ?_, fun h => ?_⟩
    · rw [H.v0, nI_leI (by omega) (by omega)] at h; omega
    · exact mHk56 C hi (fun μ1 M1 t1 H1 hk1 hM1 hA1 hR1 => ih (s + 1) μ1 M1 t1 (by omega) (by omega) H1 hk1 hM1 hA1 hR1) _ 0 μ M t rfl (Nat.zero_le _) H hk hM hA hR
theorem mHk35 (C : Cx_X3_hikes w g) {a : Nat} {μ0 : Mem} (k : HkK w m r a μ0 K) : ∀ N M μ t, sumM M 80 ≤ N → t ≤ 1 → MV w μ m r → MK m μ0 μ → MM μ m M → At r a M → (t = 0 → Cl r M) → B_X3_hikes_35 w g K mc ms m (nI t) μ kc ks := by
  intro N
  induction N with
  | zero =>
    intro M μ t hN ht H hk hM hA hC
    refine bk_X3_hikes_35 C fun _ => ⟨fun h => ?_, fun _ => ?_⟩
    · have z : t = 0 := (nI_eq (by omega) (by decide)).mp (h.trans nI_0.symm)
      exact k μ M H hk hM hA (hC z)
    · refine mHk43 C (M0 := M) (fun μ1 M1 t1 H1 hk1 hM1 hA1 hR1 => ?_) _ 0 μ M 0 rfl (Nat.zero_le _) H hk hM hA ⟨by decide, fun _ => ⟨rfl, fun h n u v c hh => absurd hh (by omega)⟩, fun z => absurd z (by decide)⟩
      rcases (show t1 = 0 ∨ t1 = 1 by have := hR1.1; omega) with z | z
      · subst z
        exact bk_X3_hikes_35 C fun _ => ⟨fun _ => k μ1 M1 H1 hk1 hM1 hA1 (hR1.2.1 rfl).2, fun h => absurd rfl h⟩
      · have := hR1.2.2 z; omega
  | succ N ih =>
    intro M μ t hN ht H hk hM hA hC
    refine bk_X3_hikes_35 C fun _ => ⟨fun h => ?_, fun _ => ?_⟩
    · have z : t = 0 := (nI_eq (by omega) (by decide)).mp (h.trans nI_0.symm)
      exact k μ M H hk hM hA (hC z)
    · refine mHk43 C (M0 := M) (fun μ1 M1 t1 H1 hk1 hM1 hA1 hR1 => ?_) _ 0 μ M 0 rfl (Nat.zero_le _) H hk hM hA ⟨by decide, fun _ => ⟨rfl, fun h n u v c hh => absurd hh (by omega)⟩, fun z => absurd z (by decide)⟩
      rcases (show t1 = 0 ∨ t1 = 1 by have := hR1.1; omega) with z | z
      · subst z
        exact bk_X3_hikes_35 C fun _ => ⟨fun _ => k μ1 M1 H1 hk1 hM1 hA1 (hR1.2.1 rfl).2, fun h => absurd rfl h⟩
      · have := hR1.2.2 z
        exact ih M1 μ1 t1 (by omega) (by omega) H1 hk1 hM1 hA1 (fun z2 => absurd z2 (by omega))
theorem mHk2 (C : Cx_X3_hikes w g) {a : Nat} (ha : a < 16) {μ0 : Mem} (k : HkK w m r a μ0 K) : ∀ n s μ, n = 80 - s → s ≤ 80 → MV w μ m r → MK m μ0 μ → (∀ u, u < s → zA μ (m + 5) u = nI (if u = 5 * a then 0 else 1000000)) → B_X3_hikes_2 w g K mc ms m (nI a) (nI s) μ kc ks := by
  intro n
  induction n with
  | zero =>
    intro s μ hn hs H hk hu
    refine bk_X3_hikes_2 C fun _ => ⟨fun _ => ?_, fun h => ?_⟩
    · refine mHk35 C k _ (fun u => if u = 5 * a then 0 else 1000000) μ 1 (Nat.le_refl _) (Nat.le_refl _) H hk (fun u h => hu u (by omega)) ⟨if_pos rfl, fun u => ?_, fun u h => ?_⟩ (fun z => absurd z (by decide))
      · dsimp only; split <;> decide
      · dsimp only at h ⊢
        split
        · rename_i z; exact ⟨0, z, rfl⟩
        · rename_i z; rw [if_neg z] at h; exact absurd h (by decide)
    · rw [nI_leI (by omega) (by omega)] at h; omega
  | succ n ih =>
    intro s μ hn hs H hk hu
    have next : ∀ (x : Nat) (μ1 : Mem), μ1 = zsA μ (m + 5) (nI s).toNatClampNeg (nI x) → x = (if s = 5 * a then 0 else 1000000) → B_X3_hikes_2 w g K mc ms m (nI a) (nI s + 1) μ1 kc ks := by
      intro x μ1 e hx
      rw [nI_clamp (by omega)] at e
      have hk1 : MK m μ μ1 := by rw [e]; exact MK.sA m μ 4 s _ (by omega)
      rw [nI_1]
      refine ih (s + 1) μ1 (by omega) (by omega) (H.mk hk1) (hk.trans hk1) fun u h => ?_
      rw [e, zA_zsA, if_pos rfl]
      by_cases z : u = s
      · subst z; rw [if_pos rfl, hx]
      · rw [if_neg z]; exact hu u (by omega)
    have e5 : nI 5 * nI a = nI (5 * a) := pk_mul 5 a
    refine bk_X3_hikes_2 C fun _ => ⟨fun h => ?_, fun _ => ⟨H.1.1, fun hne => ⟨m + 5, H.1.r67, H.1.c 4 (by decide), H.1.b 4, H.1.i 4 s (by decide) (by show s < 80; omega), fun μ1 e => ?_⟩, fun he => ⟨m + 5, H.1.r67, H.1.c 4 (by decide), H.1.b 4, H.1.i 4 s (by decide) (by show s < 80; omega), fun μ1 e => ?_⟩⟩⟩
    · rw [nI_leI (by omega) (by omega)] at h; omega
    · refine next 1000000 μ1 e (if_neg fun z => hne ?_).symm
      rw [e5, z]
    · rw [e5] at he
      exact next 0 μ1 e (if_pos ((nI_eq (by omega) (by omega)).mp he)).symm
theorem mHikes (H : MV w μ m r) {a : Nat} (ha : a < 16) (k : HkK w m r a μ K) : Tr_X3_hikes w m (nI a) μ mc ms K :=
  tr_X3_hikes fun _ C _ => mHk2 C ha k _ 0 μ rfl (by decide) H (MK.refl _ _) (fun u h => absurd h (Nat.not_lt_zero u))
theorem MK.t2 {μ' : Mem} {c0 c : Int32} (h : MK m (zsI μ 57 m c0) μ') : MK m (zsI μ 57 m c) (zsI μ' 57 m c) := by
  obtain ⟨⟨a1, a2, a3, a4, a5, a6, a7, a8, a9⟩, b, d⟩ := h
  refine ⟨⟨a1, a2, a3, a4, a5, a6, a7, fun g a hg => ?_, a9⟩, fun g => ?_, d⟩
  · have := a8 g a hg
    rw [zI_zsI, if_neg hg] at this
    rw [zI_zsI, zI_zsI, if_neg hg, if_neg hg]
    simpa using this
  · have := b g
    simp only [zI_zsI] at this ⊢
    split
    · rfl
    · rename_i z; rw [if_neg z] at this; exact this
theorem mTime (H : MV w μ m r) {x y : Int32} (k1 : (fIx (huAt x) (rH r) 0 = none ∨ fIx (huAt y) (rH r) 0 = none) → K (.inl (some (tI 0))) (zsI μ 57 m 1))
    (k2 : ∀ i j M, fIx (huAt x) (rH r) 0 = some i → fIx (huAt y) (rH r) 0 = some j → At r i M → Cl r M → 1000000 ≤ M (5 * j) → ∀ μ', MK m (zsI μ 57 m (nI 2)) μ' → K (.inl (some (tI 0))) μ')
    (k3 : ∀ i j M, fIx (huAt x) (rH r) 0 = some i → fIx (huAt y) (rH r) 0 = some j → At r i M → Cl r M → M (5 * j) < 1000000 → ∀ μ', MK m (zsI μ 57 m 0) μ' → K (.inl (some (tI (nI (M (5 * j)))))) μ') : Tr_X3_time w m x y μ mc ms K := by
  refine tr_X3_time fun g C _ => ⟨H.1.1, mHut H fun _ => ⟨H.1.1, mHut H fun _ => ?_⟩⟩
  have no : (fIx (huAt x) (rH r) 0 = none ∨ fIx (huAt y) (rH r) 0 = none) → ∀ v1 v2 kc ks, B_X3_time_23 w g K mc ms m v1 v2 (some m) μ kc ks := by
    intro h v1 v2 kc ks
    refine bk_X3_time_23 C fun _ => bk_X3_time_28 C fun _ => ⟨m, rfl, H.1.1, fun μ1 e => ?_⟩
    subst e
    refine ⟨H.1.1, fun h => ?_, fun _ => k1 h⟩
    rw [zI57] at h; exact absurd h one0
  cases e1 : fIx (huAt x) (rH r) 0 with
  | none => exact ⟨fun _ => no (Or.inl e1) _ _ _ _, fun h => absurd m1neg h⟩
  | some i =>
    obtain ⟨-, hu1, hi, -⟩ := fIx_some e1
    have hlt := H.2.2.lt hi
    refine ⟨fun h => absurd h (nI_pos (by omega)), fun _ => ?_⟩
    cases e2 : fIx (huAt y) (rH r) 0 with
    | none => exact ⟨fun h => absurd h m1npos, fun _ => no (Or.inr e2) _ _ _ _⟩
    | some j =>
      obtain ⟨-, hu2, hj, -⟩ := fIx_some e2
      have hlt2 := H.2.2.lt hj
      refine ⟨fun _ => bk_X3_time_28 C fun _ => ⟨m, rfl, H.1.1, fun μ1 e => ?_⟩, fun h => absurd (nI_pos' (by omega)) h⟩
      subst e
      refine ⟨H.1.1, fun _ => mHikes (H.t 0) hlt fun μ' M H' hk hM hA hC _ => ⟨H'.1.1, m + 5, H'.1.r67, H'.1.c 4 (by decide), ?_⟩, fun h => absurd (zI57 _ _ _) h⟩
      have e5 : nI 5 * oI (some j) = nI (5 * j) := pk_mul 5 j
      have hb := hA.2.1 (5 * j)
      rw [e5, nI_clamp (by omega), hM (5 * j) (by omega), nI_ltI (by omega) (by omega)]
      refine ⟨H'.1.i 4 (5 * j) (by decide) (by show 5 * j < 80; omega), fun h => ⟨H'.1.i 4 (5 * j) (by decide) (by show 5 * j < 80; omega), k3 i j M e1 e2 hA hC h μ' hk⟩, fun h => tr_X3_fail fun _ => ⟨H'.1.1, fun μ2 e => ?_⟩⟩
      subst e
      exact fun _ => k2 i j M e1 e2 hA hC (by omega) _ hk.t2
theorem mTimeByRounds (H : MV w μ m r) {x y : Int32} (k1 : (fIx (huAt x) (rH r) 0 = none ∨ fIx (huAt y) (rH r) 0 = none) → K (.inl (some (tI 0))) (zsI μ 57 m 1))
    (k2 : ∀ i j M, fIx (huAt x) (rH r) 0 = some i → fIx (huAt y) (rH r) 0 = some j → At r i M → Cl r M → 1000000 ≤ M (5 * j) → ∀ μ', MK m (zsI μ 57 m (nI 2)) μ' → K (.inl (some (tI 0))) μ')
    (k3 : ∀ i j M, fIx (huAt x) (rH r) 0 = some i → fIx (huAt y) (rH r) 0 = some j → At r i M → Cl r M → M (5 * j) < 1000000 → ∀ μ', MK m (zsI μ 57 m 0) μ' → K (.inl (some (tI (nI (M (5 * j)))))) μ') : Tr_X3_timeByRounds w m x y μ mc ms K :=
  tr_X3_timeByRounds fun _ => ⟨H.1.1, mTime H (fun h _ => k1 h) (fun i j M a b c d e μ' f _ => k2 i j M a b c d e μ' f) (fun i j M a b c d e μ' f _ => k3 i j M a b c d e μ' f)⟩
/-- how many huts are reached -/
def rchd (r : Ri) (M : Nat → Nat) : Nat := rc (fun o => decide (M (5 * o) < 1000000)) (rH r).length 0
theorem mRc38 (C : Cx_X3_reachableCount w g) (H : MV w μ m r) {M : Nat → Nat} (hM : MM μ m M) (hb : ∀ u, M u ≤ 1000000) : ∀ n s t, n = (rH r).length - s → s ≤ (rH r).length → K (.inl (some (tI (nI (t + rc (fun o => decide (M (5 * o) < 1000000)) (rH r).length s))))) μ → B_X3_reachableCount_38 w g K mc ms m (nI t) (nI s) μ kc ks := by
  intro n
  induction n with
  | zero =>
    intro s t hn hs k
    have hl := H.len
    refine bk_X3_reachableCount_38 C fun _ => ⟨H.1.1, m + 1, H.r63, H.cv, H.vi (i := 0) (by decide), fun _ => ?_, fun h => ?_⟩
    · rw [rc_end (by omega)] at k; exact k
    · rw [H.v0, nI_leI (by omega) (by omega)] at h; omega
  | succ n ih =>
    intro s t hn hs k
    have hl := H.len
    have hlt : s < (rH r).length := by omega
    have e5 : nI 5 * nI s = nI (5 * s) := pk_mul 5 s
    have hb1 := hb (5 * s)
    refine bk_X3_reachableCount_38 C fun _ => ⟨H.1.1, m + 1, H.r63, H.cv, H.vi (i := 0) (by decide), fun h => ?_, fun _ => ⟨m + 5, H.1.r67, H.1.c 4 (by decide), ?_⟩⟩
    · rw [H.v0, nI_leI (by omega) (by omega)] at h; omega
    rw [e5, nI_clamp (by omega), hM (5 * s) (by omega), nI_leI (by omega) (by omega), nI_1, Int32.add_zero, nI_1]
    refine ⟨H.1.i 4 (5 * s) (by decide) (by show 5 * s < 80; omega), fun h => ?_, fun h => ?_⟩
    · refine ih (s + 1) t (by omega) (by omega) ?_
      rw [rc_no hlt (decide_eq_false (by omega))] at k; exact k
    · refine ih (s + 1) (t + 1) (by omega) (by omega) ?_
      rw [rc_yes hlt (decide_eq_true (by omega))] at k
      rw [show t + 1 + rc (fun o => decide (M (5 * o) < 1000000)) (rH r).length (s + 1) = t + (rc (fun o => decide (M (5 * o) < 1000000)) (rH r).length (s + 1) + 1) by omega]; exact k
theorem mReachableCount (H : MV w μ m r) {x : Int32} (k1 : fIx (huAt x) (rH r) 0 = none → K (.inl (some (tI 0))) (zsI μ 57 m 1))
    (k2 : ∀ i M, fIx (huAt x) (rH r) 0 = some i → At r i M → Cl r M → ∀ μ', MK m (zsI μ 57 m 0) μ' → K (.inl (some (tI (nI (rchd r M))))) μ') : Tr_X3_reachableCount w m x μ mc ms K := by
  refine tr_X3_reachableCount fun g C _ => ⟨H.1.1, mHut H fun _ => ?_⟩
  cases e1 : fIx (huAt x) (rH r) 0 with
  | none =>
    refine ⟨fun h => absurd h m1npos, fun _ => bk_X3_reachableCount_18 C fun _ => ⟨m, rfl, H.1.1, fun μ1 e => ?_⟩⟩
    subst e
    refine ⟨H.1.1, fun h => ?_, fun _ => k1 e1⟩
    rw [zI57] at h; exact absurd h one0
  | some i =>
    obtain ⟨-, hu1, hi, -⟩ := fIx_some e1
    have hlt := H.2.2.lt hi
    refine ⟨fun _ => bk_X3_reachableCount_18 C fun _ => ⟨m, rfl, H.1.1, fun μ1 e => ?_⟩, fun h => absurd (nI_pos' (by omega)) h⟩
    subst e
    refine ⟨H.1.1, fun _ => mHikes (H.t 0) hlt fun μ' M H' hk hM hA hC _ => ?_, fun h => absurd (zI57 _ _ _) h⟩
    refine mRc38 C H' hM hA.2.1 _ 0 0 rfl (Nat.zero_le _) ?_
    rw [Nat.zero_add]
    exact k2 i M e1 hA hC μ' hk
end HM7
