/-! The model gives beds. -/
set_option maxRecDepth 100000
/-- the rest of the memory stays, and of the model all but its scratch rows -/
def MK (m : Nat) (μ μ' : Mem) : Prop := MF m μ μ' ∧ (∀ g, zI μ' g m = zI μ g m) ∧ ∀ k i, k < 13 → k ≠ 4 → k ≠ 5 → k ≠ 6 → zA μ' (m + 1 + k) i = zA μ (m + 1 + k) i
theorem MK.refl (m : Nat) (μ : Mem) : MK m μ μ := ⟨MF.refl m μ, fun _ => rfl, fun _ _ _ _ _ _ => rfl⟩
theorem MK.trans {m : Nat} {μ μ' μ'' : Mem} (h : MK m μ μ') (h' : MK m μ' μ'') : MK m μ μ'' := ⟨h.1.trans h'.1, fun g => (h'.2.1 g).trans (h.2.1 g), fun k i a b c d => (h'.2.2 k i a b c d).trans (h.2.2 k i a b c d)⟩
theorem MK.sA (m : Nat) (μ : Mem) (k i : Nat) (v : Int32) (hk : k = 4 ∨ k = 5 ∨ k = 6) : MK m μ (zsA μ (m + 1 + k) i v) :=
  ⟨MF.sA m μ k i v (by omega), fun _ => rfl, fun k' j h a b c => by rw [zA_zsA, if_neg (by omega)]⟩
theorem MV.mk {w : WT} {μ μ' : Mem} {m : Nat} {r : Ri} (H : MV w μ m r) (h : MK m μ μ') : MV w μ' m r := by
  have e : zA μ' (m + 1) = zA μ (m + 1) := funext fun i => h.2.2 0 i (by decide) (by decide) (by decide) (by decide)
  exact ⟨H.1.mf h.1, by rw [e]; exact H.2.1, H.2.2⟩
def huP (hs : List Hu) (h : Nat) : Nat := ((hs[h]?).map (fun x => x.1)).getD 0
def btr (hs : List Hu) (p h : Nat) (b : Option Nat) : Bool := match b with
  | none => true
  | some c => decide (dst p (huP hs h) < dst p (huP hs c))
theorem btr_some (hs : List Hu) (p h c : Nat) : btr hs p h (some c) = decide (dst p (huP hs h) < dst p (huP hs c)) := rfl
/-- the hut, from s on, that is preferred: the first one of the nearest with room -/
def pickF (hs : List Hu) (f : Nat → Nat) (p : Nat) (s : Nat) (b : Option Nat) : Option Nat :=
  (List.range' s (hs.length - s)).foldl (fun b h => if 0 < f h ∧ btr hs p h b = true then some h else b) b
theorem pickF_end {hs : List Hu} {f : Nat → Nat} {p s : Nat} {b : Option Nat} (h : hs.length ≤ s) : pickF hs f p s b = b := by
  unfold pickF; rw [show hs.length - s = 0 by omega]; rfl
theorem pickF_step {hs : List Hu} {f : Nat → Nat} {p s : Nat} {b : Option Nat} (h : s < hs.length) : pickF hs f p s b = pickF hs f p (s + 1) (if 0 < f s ∧ btr hs p s b = true then some s else b) := by
  unfold pickF; rw [rcons h]; rfl
/-- beds given to the first q hikers: who has which hut, and what is left -/
def gbS (hs : List Hu) (ks : List Hk) : Nat → (Nat → Option Nat) × (Nat → Nat)
  | 0 => (fun _ => none, fun h => ((hs[h]?).map (fun x => x.2.2.1)).getD 0)
  | q + 1 =>
    match (srt ks)[q]? with
    | none => gbS hs ks q
    | some k =>
      let is := pickF hs (gbS hs ks q).2 (((ks[k]?).map (fun x => x.2.1)).getD 0) 0 none
      (fun k' => if k' = k then is else (gbS hs ks q).1 k', fun h => if is = some h then (gbS hs ks q).2 h - 1 else (gbS hs ks q).2 h)
/-- the hut of the hiker at k -/
def bedW (r : Ri) (k : Nat) : Option Nat := (gbS (rH r) (rK r) (rK r).length).1 k
theorem gbS_free (hs : List Hu) (ks : List Hk) (hb : ∀ h ∈ hs, huOk h) : ∀ q h, (gbS hs ks q).2 h ≤ 4
  | 0, h => by
    unfold gbS
    cases e : hs[h]? with
    | none => simp [e]
    | some x => simp [e]; exact (hb x (List.mem_of_getElem? e)).2.2.2.1
  | q + 1, h => by
    have ih := gbS_free hs ks hb q
    unfold gbS
    cases e : (srt ks)[q]? with
    | none => exact ih h
    | some k =>
      simp only
      split
      · have := ih h; omega
      · exact ih h
section HM6
variable {w : WT} {g : GT} {μ : Mem} {m : Nat} {r : Ri} {mc ms kc ks : Nat} {K : Out → Mem → Prop}
theorem MA.r68 (H : MA w μ m) : zR μ 68 m = some (m + 6) := H.r 5 (by decide)
theorem MA.r69 (H : MA w μ m) : zR μ 69 m = some (m + 7) := H.r 6 (by decide)
/-- what the rows 'free' and 'bed' hold -/
def GBm (μ : Mem) (m : Nat) (r : Ri) (f : Nat → Nat) (b : Nat → Option Nat) (nb : Nat → Prop) : Prop := (∀ h, h < (rH r).length → zA μ (m + 6) h = nI (f h)) ∧ (∀ k, nb k → zA μ (m + 7) k = oI (b k))
theorem mGb57 (C : Cx_X3_givesBeds w g) {q i : Nat} {k : Hk} (hi : (rK r)[i]? = some k) (f : Nat → Nat) (hf4 : ∀ h, f h ≤ 4) (b : Nat → Option Nat) (nb : Nat → Prop)
    (hk : ∀ μ' is, MK m μ μ' → is = pickF (rH r) f k.2.1 0 none → GBm μ' m r (fun h => if is = some h then f h - 1 else f h) (fun k' => if k' = i then is else b k') (fun k' => k' = i ∨ nb k') → B_X3_givesBeds_36 w g K mc ms m (nI q + 1) μ' kc ks)
    (H : MV w μ m r) (G : GBm μ m r f b nb) :
    ∀ n s (is : Option Nat), n = (rH r).length - s → s ≤ (rH r).length → (∀ c, is = some c → c < (rH r).length ∧ 0 < f c) → pickF (rH r) f k.2.1 s is = pickF (rH r) f k.2.1 0 none → B_X3_givesBeds_57 w g K mc ms m (nI q) (nI i) (oI is) (nI s) μ kc ks := by
  have hl := H.len
  have hik := H.2.2.ltk hi
  intro n
  induction n with
  | zero =>
    intro s is hn hs hc hp
    rw [pickF_end (by omega)] at hp
    refine bk_X3_givesBeds_57 C fun _ => ⟨H.1.1, m + 1, H.r63, H.cv, H.vi (i := 0) (by decide), fun _ => ⟨m + 7, H.1.r69, H.1.c 6 (by decide), H.1.b 6, H.1.i 6 i (by decide) hik, fun μ1 e1 => ?_⟩, fun h => ?_⟩
    · rw [nI_clamp (by omega)] at e1
      have hk1 : MK m μ μ1 := by rw [e1]; exact MK.sA m μ 6 i (oI is) (by omega)
      have H1 := H.mk hk1
      have eb : ∀ k', zA μ1 (m + 7) k' = if k' = i then oI is else zA μ (m + 7) k' := by
        intro k'; rw [e1, zA_zsA, if_pos rfl]
      have ef : ∀ h, zA μ1 (m + 6) h = zA μ (m + 6) h := by
        intro h; rw [e1, zA_zsA, if_neg (by omega)]
      cases is with
      | none =>
        refine ⟨fun _ => hk μ1 none hk1 hp ⟨fun h hh => ?_, fun k' hk' => ?_⟩, fun h => absurd m1neg h⟩
        · dsimp only; rw [ef, G.1 h hh, if_neg (fun z => by cases z)]
        · dsimp only; rw [eb]
          by_cases z : k' = i
          · rw [if_pos z, if_pos z]
          · rw [if_neg z, if_neg z]; exact G.2 k' (hk'.resolve_left z)
      | some c =>
        obtain ⟨hcl, hcf⟩ := hc c rfl
        refine ⟨fun h => absurd h (nI_pos (by omega)), fun _ => ⟨m + 6, H1.1.r68, H1.1.c 5 (by decide), H1.1.i 5 c (by decide) (by show c < 16; omega), H1.1.b 5, H1.1.i 5 c (by decide) (by show c < 16; omega), fun μ2 e2 => ?_⟩⟩
        rw [show (oI (some c)).toNatClampNeg = c from nI_clamp (by omega)] at e2
        have hk2 : MK m μ1 μ2 := by rw [e2]; exact MK.sA m μ1 5 c _ (by omega)
        refine hk μ2 (some c) (hk1.trans hk2) hp ⟨fun h hh => ?_, fun k' hk' => ?_⟩
        · dsimp only; rw [e2, zA_zsA, if_pos rfl]
          by_cases z : h = c
          · subst z
            rw [if_pos rfl, if_pos rfl, ef, G.1 h hh]
            obtain ⟨x, hx⟩ : ∃ x, f h = x + 1 := ⟨f h - 1, by omega⟩
            rw [hx, nI_pred]; rfl
          · rw [if_neg z, if_neg (fun q => z (Option.some.inj q).symm), ef]; exact G.1 h hh
        · dsimp only; rw [e2, zA_zsA, if_neg (by omega), eb]
          by_cases z : k' = i
          · rw [if_pos z, if_pos z]
          · rw [if_neg z, if_neg z]; exact G.2 k' (hk'.resolve_left z)
    · rw [H.v0, nI_leI (by omega) (by omega)] at h; omega
  | succ n ih =>
    intro s is hn hs hc hp
    have hlt : s < (rH r).length := by omega
    have hsu : (rH r)[s]? = some (rH r)[s] := List.getElem?_eq_getElem hlt
    have eP : huP (rH r) s = (rH r)[s].1 := by unfold huP; rw [hsu]; rfl
    rw [pickF_step hlt] at hp
    refine bk_X3_givesBeds_57 C fun _ => ⟨H.1.1, m + 1, H.r63, H.cv, H.vi (i := 0) (by decide), fun h => ?_, fun h => ⟨m + 6, H.1.r68, H.1.c 5 (by decide), H.1.i 5 s (by decide) (by show s < 16; omega), ?_⟩⟩
    · rw [H.v0, nI_leI (by omega) (by omega)] at h; omega
    rw [nI_clamp (by omega), G.1 s hlt, nI_1]
    have h4 := hf4 s
    refine ⟨fun h0 => ?_, fun h0 => ⟨fun hneg => ?_, fun hpos => ?_⟩⟩
    · have z : f s = 0 := by rw [← nI_0, nI_leI (by omega) (by decide)] at h0; omega
      rw [if_neg (by rw [z]; exact fun q => absurd q.1 (Nat.lt_irrefl 0))] at hp
      exact ih (s + 1) is (by omega) (by omega) hc hp
    · have z : 0 < f s := by rw [← nI_0, nI_leI (by omega) (by decide)] at h0; omega
      cases is with
      | none =>
        rw [if_pos ⟨z, rfl⟩] at hp
        exact ih (s + 1) (some s) (by omega) (by omega) (fun c e => by cases e; exact ⟨hlt, z⟩) hp
      | some c => exact absurd hneg (nI_pos (by have := (hc c rfl).1; omega))
    · have z : 0 < f s := by rw [← nI_0, nI_leI (by omega) (by decide)] at h0; omega
      cases is with
      | none => exact absurd m1neg hpos
      | some c =>
        have hcl := (hc c rfl).1
        have hcu : (rH r)[c]? = some (rH r)[c] := List.getElem?_eq_getElem hcl
        have eC : huP (rH r) c = (rH r)[c].1 := by unfold huP; rw [hcu]; rfl
        have d1 : dst k.2.1 (rH r)[s].1 ≤ 99 := by
          have a1 := (H.2.2.hk hi).2.1; have a2 := (H.2.2.hu hsu).1
          unfold dst; split <;> omega
        have d2 : dst k.2.1 (rH r)[c].1 ≤ 99 := by
          have a1 := (H.2.2.hk hi).2.1; have a2 := (H.2.2.hu hcu).1
          unfold dst; split <;> omega
        refine mApart H hi hsu fun _ => ⟨H.1.1, mApart H hi hcu fun _ => ⟨fun hle => ?_, fun hnl => ?_⟩⟩
        · rw [nI_leI (by omega) (by omega)] at hle
          rw [if_neg (by rw [btr_some, eP, eC]; exact fun q => absurd (of_decide_eq_true q.2) (Nat.not_lt.mpr hle))] at hp
          exact ih (s + 1) (some c) (by omega) (by omega) hc hp
        · rw [nI_leI (by omega) (by omega)] at hnl
          rw [if_pos (by rw [btr_some, eP, eC]; exact ⟨z, decide_eq_true (Nat.not_le.mp hnl)⟩)] at hp
          exact ih (s + 1) (some s) (by omega) (by omega) (fun c e => by cases e; exact ⟨hlt, z⟩) hp
theorem mGb36 (C : Cx_X3_givesBeds w g) : ∀ n q (μ : Mem), MV w μ m r → n = (rK r).length - q → q ≤ (rK r).length → GBm μ m r (gbS (rH r) (rK r) q).2 (gbS (rH r) (rK r) q).1 (fun k' => ∃ q', q' < q ∧ (srt (rK r))[q']? = some k') →
    (∀ μ', MK m μ μ' → (∀ k, k < (rK r).length → zA μ' (m + 7) k = oI (bedW r k)) → K (.inl none) μ') → B_X3_givesBeds_36 w g K mc ms m (nI q) μ kc ks := by
  intro n
  induction n with
  | zero =>
    intro q μ H hn hq G k
    have hl := H.lenK
    have e : q = (rK r).length := by omega
    refine bk_X3_givesBeds_36 C fun _ => ⟨H.1.1, m + 1, H.r63, H.cv, H.vi (i := 3) (by decide), fun _ => k μ (MK.refl _ _) fun j hj => ?_, fun h => ?_⟩
    · unfold bedW
      rw [← e]
      refine G.2 j ?_
      obtain ⟨q', hq'⟩ := List.getElem?_of_mem ((srtN_mem (l := rK r) (n := (rK r).length)).mpr hj)
      have h3 := (List.getElem?_eq_some_iff.mp hq').1
      have h4 := srt_len (rK r)
      unfold srt at h4
      exact ⟨q', by omega, hq'⟩
    · rw [H.v3, nI_leI (by omega) (by omega)] at h; omega
  | succ n ih =>
    intro q μ H hn hq G k
    have hl := H.lenK
    have hq2 : q < (srt (rK r)).length := by rw [srt_len]; omega
    have hs : (srt (rK r))[q]? = some (srt (rK r))[q] := List.getElem?_eq_getElem hq2
    obtain ⟨hi, -⟩ := rk_srt hs
    have hik : (rK r)[(srt (rK r))[q]]? = some (rK r)[(srt (rK r))[q]] := List.getElem?_eq_getElem hi
    refine bk_X3_givesBeds_36 C fun _ => ⟨H.1.1, m + 1, H.r63, H.cv, H.vi (i := 3) (by decide), fun h => ?_, fun h => ?_⟩
    · rw [H.v3, nI_leI (by omega) (by omega)] at h; omega
    · refine mRanked H fun _ => ?_
      rw [(rkd_srt (l := rK r) (by omega) (q := q)).resolve_right (by omega), hs]
      refine mGb57 C hik _ (gbS_free _ _ H.2.2.2.2.1 q) _ _ (fun μ' is hm e G' => ?_) H G _ 0 none rfl (Nat.zero_le _) (fun c h => by cases h) rfl
      rw [nI_1]
      refine ih (q + 1) μ' (H.mk hm) (by omega) (by omega) ?_ (fun μ'' h1 h2 => k μ'' (hm.trans h1) h2)
      have eq1 : gbS (rH r) (rK r) (q + 1) = (fun k' => if k' = (srt (rK r))[q] then is else (gbS (rH r) (rK r) q).1 k', fun h => if is = some h then (gbS (rH r) (rK r) q).2 h - 1 else (gbS (rH r) (rK r) q).2 h) := by
        show (match (srt (rK r))[q]? with | none => _ | some k => _) = _
        rw [hs]
        simp only [hik, e]; rfl
      rw [eq1]
      refine ⟨G'.1, fun k' hk' => G'.2 k' ?_⟩
      obtain ⟨q', h1, h2⟩ := hk'
      by_cases z : q' = q
      · subst z
        rw [hs] at h2
        exact Or.inl (Option.some.inj h2).symm
      · exact Or.inr ⟨q', by omega, h2⟩
theorem mGb2 (C : Cx_X3_givesBeds w g) (k : ∀ μ', MV w μ' m r → MK m μ μ' → (∀ h, h < (rH r).length → zA μ' (m + 6) h = nI ((gbS (rH r) (rK r) 0).2 h)) → B_X3_givesBeds_36 w g K mc ms m 0 μ' kc ks) :
    ∀ n s (μ1 : Mem), MV w μ1 m r → MK m μ μ1 → n = (rH r).length - s → s ≤ (rH r).length → (∀ h, h < s → zA μ1 (m + 6) h = nI ((gbS (rH r) (rK r) 0).2 h)) → B_X3_givesBeds_2 w g K mc ms m (nI s) μ1 kc ks := by
  intro n
  induction n with
  | zero =>
    intro s μ1 H hm hn hs hf
    have hl := H.len
    refine bk_X3_givesBeds_2 C fun _ => ⟨H.1.1, m + 1, H.r63, H.cv, H.vi (i := 0) (by decide), fun _ => k μ1 H hm fun h hh => hf h (by omega), fun h => ?_⟩
    rw [H.v0, nI_leI (by omega) (by omega)] at h; omega
  | succ n ih =>
    intro s μ1 H hm hn hs hf
    have hl := H.len
    have hlt : s < (rH r).length := by omega
    have hi : (rH r)[s]? = some (rH r)[s] := List.getElem?_eq_getElem hlt
    refine bk_X3_givesBeds_2 C fun _ => ⟨H.1.1, m + 1, H.r63, H.cv, H.vi (i := 0) (by decide), fun h => ?_, fun _ => mOf (x := 2) rfl fun _ => ⟨H.cv, H.vi (by omega), m + 6, H.1.r68, H.1.c 5 (by decide), H.1.b 5, H.1.i 5 s (by decide) (by show s < 16; omega), fun μ2 e2 => ?_⟩⟩
    · rw [H.v0, nI_leI (by omega) (by omega)] at h; omega
    · rw [nI_clamp (by omega), nI_clamp (by omega), (H.hut hi).2.2.1] at e2
      have hk2 : MK m μ1 μ2 := by rw [e2]; exact MK.sA m μ1 5 s _ (by omega)
      rw [nI_1]
      refine ih (s + 1) μ2 (H.mk hk2) (hm.trans hk2) (by omega) (by omega) fun h hh => ?_
      rw [e2, zA_zsA, if_pos rfl]
      by_cases z : h = s
      · subst z
        rw [if_pos rfl]
        unfold gbS
        simp [hi]
      · rw [if_neg z]; exact hf h (by omega)
theorem mGivesBeds (H : MV w μ m r) (k : ∀ μ', MK m μ μ' → (∀ k, k < (rK r).length → zA μ' (m + 7) k = oI (bedW r k)) → K (.inl none) μ') : Tr_X3_givesBeds w m μ mc ms K :=
  tr_X3_givesBeds fun _ C _ => mGb2 (r := r) C (fun μ' H' hm hf => mGb36 C _ 0 μ' H' rfl (Nat.zero_le _) ⟨hf, fun k' ⟨q', h, _⟩ => absurd h (Nat.not_lt_zero _)⟩ (fun μ'' h1 h2 => k μ'' (hm.trans h1) h2)) _ 0 μ H (MK.refl _ _) rfl (Nat.zero_le _) (fun h hh => absurd hh (Nat.not_lt_zero _))
theorem gbS_lt (hs : List Hu) (ks : List Hk) : ∀ q k c, (gbS hs ks q).1 k = some c → c < hs.length
  | 0, k, c, h => by cases h
  | q + 1, k, c, h => by
    unfold gbS at h
    cases e : (srt ks)[q]? with
    | none => rw [e] at h; exact gbS_lt hs ks q k c h
    | some k2 =>
      rw [e] at h
      simp only at h
      split at h
      · have key : ∀ n s (b : Option Nat), n = hs.length - s → (∀ d, b = some d → d < hs.length) → ∀ d, pickF hs (gbS hs ks q).2 (((ks[k2]?).map (fun x => x.2.1)).getD 0) s b = some d → d < hs.length := by
          intro n
          induction n with
          | zero => intro s b hn hb d hd; rw [pickF_end (by omega)] at hd; exact hb d hd
          | succ n ih =>
            intro s b hn hb d hd
            rw [pickF_step (by omega)] at hd
            refine ih (s + 1) _ (by omega) (fun d' hd' => ?_) d hd
            split at hd'
            · cases hd'; omega
            · exact hb d' hd'
        exact key _ 0 none rfl (fun d hd => by cases hd) c h
      · exact gbS_lt hs ks q k c h
theorem mBedOf (H : MV w μ m r) {x : Int32} (k1 : (∀ i, fIx (hkId x) (rK r) 0 = some i → bedW r i = none) → ∀ μ', MK m (zsI μ 57 m 1) μ' → K (.inl (some (tI 0))) μ')
    (k2 : ∀ i c h, fIx (hkId x) (rK r) 0 = some i → bedW r i = some c → (rH r)[c]? = some h → ∀ μ', MK m (zsI μ 57 m 0) μ' → K (.inl (some (tI (nI h.1)))) μ') : Tr_X3_bedOf w m x μ mc ms K := by
  have mv : ∀ (μ' : Mem) (c : Int32), MK m μ μ' → MK m (zsI μ 57 m c) (zsI μ' 57 m c) := by
    intro μ' c h
    obtain ⟨⟨a1, a2, a3, a4, a5, a6, a7, a8, a9⟩, b, d⟩ := h
    refine ⟨⟨a1, a2, a3, a4, a5, a6, a7, fun g a hg => ?_, a9⟩, fun g => ?_, d⟩
    · rw [zI_zsI, zI_zsI, if_neg hg, if_neg hg, a8 g a hg]
    · simp only [zI_zsI, b]
  refine tr_X3_bedOf fun g C _ => ⟨H.1.1, mHiker H fun _ => ⟨H.1.1, mGivesBeds H fun μ' hm hb _ => ?_⟩⟩
  have H' := H.mk hm
  have no : (∀ i, fIx (hkId x) (rK r) 0 = some i → bedW r i = none) → ∀ i : Int32, ∀ kc ks, B_X3_bedOf_24 w g K mc ms m i (some m) μ' kc ks := by
    intro hn i kc ks
    refine bk_X3_bedOf_24 C fun _ => bk_X3_bedOf_29 C fun _ => ⟨m, rfl, H'.1.1, fun μ1 e => ?_⟩
    subst e
    refine ⟨H'.1.1, fun _ => k1 hn _ (mv _ _ hm), fun h => ?_⟩
    rw [zI57] at h; exact absurd h one0
  cases e : fIx (hkId x) (rK r) 0 with
  | none => exact ⟨fun _ => no (fun i h => by rw [e] at h; cases h) _ _ _, fun h => absurd m1neg h⟩
  | some i =>
    obtain ⟨-, h, hi, hp⟩ := fIx_some e
    have hlt := H.2.2.ltk hi
    have hlk := (List.getElem?_eq_some_iff.mp hi).1
    refine ⟨fun h => absurd h (nI_pos (by omega)), fun _ => ⟨H'.1.1, m + 7, H'.1.r69, H'.1.c 6 (by decide), H'.1.i 6 i (by decide) hlt, ?_⟩⟩
    rw [show (oI (some i)).toNatClampNeg = i from nI_clamp (by omega), hb i hlk]
    cases e2 : bedW r i with
    | none => exact ⟨fun h => absurd h m1npos, fun _ => no (fun i' h' => by rw [e] at h'; cases h'; exact e2) _ _ _⟩
    | some c =>
      have hc := gbS_lt _ _ _ _ _ e2
      have hl := H.len
      have hcu : (rH r)[c]? = some (rH r)[c] := List.getElem?_eq_getElem hc
      refine ⟨fun _ => bk_X3_bedOf_29 C fun _ => ⟨m, rfl, H'.1.1, fun μ1 e1 => ?_⟩, fun h => absurd (nI_pos' (by omega)) h⟩
      subst e1
      have H1 := H'.t 0
      refine ⟨H'.1.1, fun h => absurd (zI57 _ _ _) h, fun _ => ⟨m + 7, H1.1.r69, H1.1.c 6 (by decide), H1.1.i 6 i (by decide) hlt, ?_⟩⟩
      rw [show (oI (some i)).toNatClampNeg = i from nI_clamp (by omega), show zA (zsI μ' 57 m 0) (m + 7) i = nI c from (hb i hlk).trans (by rw [e2]; rfl)]
      exact mAt H1 hcu fun _ => k2 i c _ e e2 hcu _ (mv _ _ hm)
theorem mBedByAsking (H : MV w μ m r) {x : Int32} (k1 : (∀ i, fIx (hkId x) (rK r) 0 = some i → bedW r i = none) → ∀ μ', MK m (zsI μ 57 m 1) μ' → K (.inl (some (tI 0))) μ')
    (k2 : ∀ i c h, fIx (hkId x) (rK r) 0 = some i → bedW r i = some c → (rH r)[c]? = some h → ∀ μ', MK m (zsI μ 57 m 0) μ' → K (.inl (some (tI (nI h.1)))) μ') : Tr_X3_bedByAsking w m x μ mc ms K :=
  tr_X3_bedByAsking fun _ => ⟨H.1.1, mBedOf H (fun h μ' a _ => k1 h μ' a) (fun i c h a b d μ' e _ => k2 i c h a b d μ' e)⟩
end HM6
