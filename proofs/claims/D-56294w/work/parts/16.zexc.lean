/-! The JDK's exceptions: the words of 'new E()'. -/
set_option maxRecDepth 100000
def zEn : List String := ["java/lang/RuntimeException", "java/lang/Exception"]
theorem zEn_ok : ∀ n ∈ zEn, Bundle.fit n = true := by decide +kernel
theorem zatC {P : Cond → Prop} {a : Cond} {L : List Cond} (h1 : vx_no a = true → P a) (h2 : ∀ c ∈ L, vx_no c = true → P c) : ∀ c ∈ a :: L, vx_no c = true → P c := by
  intro c hc
  rcases List.mem_cons.mp hc with rfl | h
  · exact h1
  · exact h2 c h
theorem zatN {P : Cond → Prop} : ∀ c ∈ ([] : List Cond), vx_no c = true → P c := fun c hc => absurd hc List.not_mem_nil
abbrev zP1 (c : Cond) : Prop := c ∈ lw_tbl ∧ (c ∈ lw_all ∨ zNwk c = true)
theorem zP1.g {c : Cond} (h : c ∈ lw_all) : vx_no c = true → zP1 c := fun _ => ⟨lw_all_tbl h, Or.inl h⟩
theorem zP1.d {c : Cond} (h : c ∈ lw_tbl) (hk : zNwk c = true) : vx_no c = true → zP1 c := fun _ => ⟨h, Or.inr hk⟩
theorem zat_u : vx_no (.isRef (.static Bundle.tN "UNASSIGNED_STACK" Bundle.steD)) = false := by simp [vx_no]
theorem zat_s : vx_no (.isRef (.static Bundle.tN "SUPPRESSED_SENTINEL" Bundle.listD)) = false := by simp [vx_no]
theorem zat_lu : vx_no (.laysStatic Bundle.tN "UNASSIGNED_STACK" Bundle.steD) = false := by simp [vx_no]
theorem zat_ls : vx_no (.laysStatic Bundle.tN "SUPPRESSED_SENTINEL" Bundle.listD) = false := by simp [vx_no]
theorem zatX {P : Cond → Prop} {c : Cond} (h : vx_no c = false) : vx_no c = true → P c := fun z => by rw [h] at z; cases z
theorem zEf_20 : Bundle.fit "java/lang/IllegalArgumentException" = true := by decide +kernel
theorem zat_20 {own : String} {ic : Nat} (h : Cond.methodLink own ic ⟨"java/lang/IllegalArgumentException", "<init>", "()V"⟩ ∈ lw_all) : ∀ c ∈ vx_at0 own ic "java/lang/IllegalArgumentException" zEn, c ∈ lw_tbl ∧ (c ∈ lw_all ∨ zNwk c = true) := by
  intro c hc
  obtain ⟨h1, h2⟩ := List.mem_filter.mp hc
  refine (?_ : ∀ c ∈ Bundle.ownAtoms0 own ic "java/lang/IllegalArgumentException" zEn, vx_no c = true → zP1 c) c h1 h2
  exact zatC (.g q116) (zatC (.g q451) (zatC (.g q460) (zatC (.g q472) (zatC (.g q475) (zatC (.g q477) (zatC (.g q452) (zatC (.g q453) (zatC (.g q182) (zatC (.g q183) (zatC (.g q454) (zatC (.g q459) (zatC (.g q473) (zatC (.g q696) (zatC (.g q441) (zatC (.g q697) (zatC (.g q443) (zatC (.g q698) (zatC (.g q445) (zatC (.g q455) (zatC (zatX zat_lu) (zatC (.g q457) (zatC (zatX zat_ls) (zatC (.g q447) (zatC (.g q2128) (zatC (.g q2129) (zatC (.g q2130) (zatC (.g q1151) (zatC (.d q432 rfl) (zatC (.g q1151) (zatC (.g q1152) (zatC (.g q1153) (zatC (.g q1154) (zatC (.d q434 rfl) (zatC (.g q1154) (zatC (.g q1155) (zatC (.g q1156) (zatC (.g q452) (zatC (.d q436 rfl) (zatC (.g h) (zatC (.g q668) (zatC (.d q669 rfl) (zatC (.g q670) (zatC (.g q467) (zatC (.g q671) (zatC (.g q672) (zatC (.g q673) (zatC (.g q674) (zatC (zatX zat_u) (zatC (zatX zat_s) (zatC (.g q694) (zatC (.g q449) (zatC (.g q675) (zatN)))))))))))))))))))))))))))))))))))))))))))))))))))))
theorem zgo_20 (own : String) (ik ic : Nat) : ∀ c ∈ Cond.classLink own ik "java/lang/IllegalArgumentException" :: Cond.initialized "java/lang/IllegalArgumentException" :: vx_at0 own ic "java/lang/IllegalArgumentException" zEn, vx_ot c = true := by
  intro c hc
  rcases List.mem_cons.mp hc with rfl | hc
  · rfl
  rcases List.mem_cons.mp hc with rfl | hc
  · rfl
  obtain ⟨h1, h2⟩ := List.mem_filter.mp hc
  refine (?_ : ∀ c ∈ Bundle.ownAtoms0 own ic "java/lang/IllegalArgumentException" zEn, vx_no c = true → vx_ot c = true) c h1 h2
  exact zatC (fun _ => rfl) (zatC (fun _ => rfl) (zatC (fun _ => rfl) (zatC (fun _ => rfl) (zatC (fun _ => rfl) (zatC (fun _ => rfl) (zatC (fun _ => rfl) (zatC (fun _ => rfl) (zatC (fun _ => rfl) (zatC (fun _ => rfl) (zatC (fun _ => rfl) (zatC (fun _ => rfl) (zatC (fun _ => rfl) (zatC (fun _ => rfl) (zatC (fun _ => rfl) (zatC (fun _ => rfl) (zatC (fun _ => rfl) (zatC (fun _ => rfl) (zatC (fun _ => rfl) (zatC (fun _ => rfl) (zatC (zatX (P := fun c => vx_ot c = true) zat_lu) (zatC (fun _ => rfl) (zatC (zatX (P := fun c => vx_ot c = true) zat_ls) (zatC (fun _ => rfl) (zatC (fun _ => rfl) (zatC (fun _ => rfl) (zatC (fun _ => rfl) (zatC (fun _ => rfl) (zatC (fun _ => rfl) (zatC (fun _ => rfl) (zatC (fun _ => rfl) (zatC (fun _ => rfl) (zatC (fun _ => rfl) (zatC (fun _ => rfl) (zatC (fun _ => rfl) (zatC (fun _ => rfl) (zatC (fun _ => rfl) (zatC (fun _ => rfl) (zatC (fun _ => rfl) (zatC (fun _ => rfl) (zatC (fun _ => rfl) (zatC (fun _ => rfl) (zatC (fun _ => rfl) (zatC (fun _ => rfl) (zatC (fun _ => rfl) (zatC (fun _ => rfl) (zatC (fun _ => rfl) (zatC (fun _ => rfl) (zatC (zatX (P := fun c => vx_ot c = true) zat_u) (zatC (zatX (P := fun c => vx_ot c = true) zat_s) (zatC (fun _ => rfl) (zatC (fun _ => rfl) (zatC (fun _ => rfl) (zatN)))))))))))))))))))))))))))))))))))))))))))))))))))))
theorem zEf_21 : Bundle.fit "java/lang/IllegalStateException" = true := by decide +kernel
theorem zat_21 {own : String} {ic : Nat} (h : Cond.methodLink own ic ⟨"java/lang/IllegalStateException", "<init>", "()V"⟩ ∈ lw_all) : ∀ c ∈ vx_at0 own ic "java/lang/IllegalStateException" zEn, c ∈ lw_tbl ∧ (c ∈ lw_all ∨ zNwk c = true) := by
  intro c hc
  obtain ⟨h1, h2⟩ := List.mem_filter.mp hc
  refine (?_ : ∀ c ∈ Bundle.ownAtoms0 own ic "java/lang/IllegalStateException" zEn, vx_no c = true → zP1 c) c h1 h2
  exact zatC (.g q116) (zatC (.g q451) (zatC (.g q460) (zatC (.g q472) (zatC (.g q475) (zatC (.g q477) (zatC (.g q452) (zatC (.g q453) (zatC (.g q182) (zatC (.g q183) (zatC (.g q454) (zatC (.g q459) (zatC (.g q473) (zatC (.g q696) (zatC (.g q441) (zatC (.g q697) (zatC (.g q443) (zatC (.g q698) (zatC (.g q445) (zatC (.g q455) (zatC (zatX zat_lu) (zatC (.g q457) (zatC (zatX zat_ls) (zatC (.g q447) (zatC (.g q2728) (zatC (.g q2729) (zatC (.g q2730) (zatC (.g q1151) (zatC (.d q432 rfl) (zatC (.g q1151) (zatC (.g q1152) (zatC (.g q1153) (zatC (.g q1154) (zatC (.d q434 rfl) (zatC (.g q1154) (zatC (.g q1155) (zatC (.g q1156) (zatC (.g q452) (zatC (.d q436 rfl) (zatC (.g h) (zatC (.g q2719) (zatC (.d q2720 rfl) (zatC (.g q2721) (zatC (.g q468) (zatC (.g q2722) (zatC (.g q2723) (zatC (.g q2724) (zatC (.g q2725) (zatC (zatX zat_u) (zatC (zatX zat_s) (zatC (.g q694) (zatC (.g q449) (zatC (.g q2726) (zatN)))))))))))))))))))))))))))))))))))))))))))))))))))))
theorem zgo_21 (own : String) (ik ic : Nat) : ∀ c ∈ Cond.classLink own ik "java/lang/IllegalStateException" :: Cond.initialized "java/lang/IllegalStateException" :: vx_at0 own ic "java/lang/IllegalStateException" zEn, vx_ot c = true := by
  intro c hc
  rcases List.mem_cons.mp hc with rfl | hc
  · rfl
  rcases List.mem_cons.mp hc with rfl | hc
  · rfl
  obtain ⟨h1, h2⟩ := List.mem_filter.mp hc
  refine (?_ : ∀ c ∈ Bundle.ownAtoms0 own ic "java/lang/IllegalStateException" zEn, vx_no c = true → vx_ot c = true) c h1 h2
  exact zatC (fun _ => rfl) (zatC (fun _ => rfl) (zatC (fun _ => rfl) (zatC (fun _ => rfl) (zatC (fun _ => rfl) (zatC (fun _ => rfl) (zatC (fun _ => rfl) (zatC (fun _ => rfl) (zatC (fun _ => rfl) (zatC (fun _ => rfl) (zatC (fun _ => rfl) (zatC (fun _ => rfl) (zatC (fun _ => rfl) (zatC (fun _ => rfl) (zatC (fun _ => rfl) (zatC (fun _ => rfl) (zatC (fun _ => rfl) (zatC (fun _ => rfl) (zatC (fun _ => rfl) (zatC (fun _ => rfl) (zatC (zatX (P := fun c => vx_ot c = true) zat_lu) (zatC (fun _ => rfl) (zatC (zatX (P := fun c => vx_ot c = true) zat_ls) (zatC (fun _ => rfl) (zatC (fun _ => rfl) (zatC (fun _ => rfl) (zatC (fun _ => rfl) (zatC (fun _ => rfl) (zatC (fun _ => rfl) (zatC (fun _ => rfl) (zatC (fun _ => rfl) (zatC (fun _ => rfl) (zatC (fun _ => rfl) (zatC (fun _ => rfl) (zatC (fun _ => rfl) (zatC (fun _ => rfl) (zatC (fun _ => rfl) (zatC (fun _ => rfl) (zatC (fun _ => rfl) (zatC (fun _ => rfl) (zatC (fun _ => rfl) (zatC (fun _ => rfl) (zatC (fun _ => rfl) (zatC (fun _ => rfl) (zatC (fun _ => rfl) (zatC (fun _ => rfl) (zatC (fun _ => rfl) (zatC (fun _ => rfl) (zatC (zatX (P := fun c => vx_ot c = true) zat_u) (zatC (zatX (P := fun c => vx_ot c = true) zat_s) (zatC (fun _ => rfl) (zatC (fun _ => rfl) (zatC (fun _ => rfl) (zatN)))))))))))))))))))))))))))))))))))))))))))))))))))))
theorem zEf_31 : Bundle.fit "java/util/NoSuchElementException" = true := by decide +kernel
theorem zat_31 {own : String} {ic : Nat} (h : Cond.methodLink own ic ⟨"java/util/NoSuchElementException", "<init>", "()V"⟩ ∈ lw_all) : ∀ c ∈ vx_at0 own ic "java/util/NoSuchElementException" zEn, c ∈ lw_tbl ∧ (c ∈ lw_all ∨ zNwk c = true) := by
  intro c hc
  obtain ⟨h1, h2⟩ := List.mem_filter.mp hc
  refine (?_ : ∀ c ∈ Bundle.ownAtoms0 own ic "java/util/NoSuchElementException" zEn, vx_no c = true → zP1 c) c h1 h2
  exact zatC (.g q116) (zatC (.g q451) (zatC (.g q460) (zatC (.g q472) (zatC (.g q475) (zatC (.g q477) (zatC (.g q452) (zatC (.g q453) (zatC (.g q182) (zatC (.g q183) (zatC (.g q454) (zatC (.g q459) (zatC (.g q473) (zatC (.g q696) (zatC (.g q441) (zatC (.g q697) (zatC (.g q443) (zatC (.g q698) (zatC (.g q445) (zatC (.g q455) (zatC (zatX zat_lu) (zatC (.g q457) (zatC (zatX zat_ls) (zatC (.g q447) (zatC (.g q1148) (zatC (.g q1149) (zatC (.g q1150) (zatC (.g q1151) (zatC (.d q432 rfl) (zatC (.g q1151) (zatC (.g q1152) (zatC (.g q1153) (zatC (.g q1154) (zatC (.d q434 rfl) (zatC (.g q1154) (zatC (.g q1155) (zatC (.g q1156) (zatC (.g q452) (zatC (.d q436 rfl) (zatC (.g h) (zatC (.g q1011) (zatC (.d q1012 rfl) (zatC (.g q1013) (zatC (.g q471) (zatC (.g q1014) (zatC (.g q1015) (zatC (.g q1016) (zatC (.g q1017) (zatC (zatX zat_u) (zatC (zatX zat_s) (zatC (.g q694) (zatC (.g q449) (zatC (.g q1018) (zatN)))))))))))))))))))))))))))))))))))))))))))))))))))))
theorem zgo_31 (own : String) (ik ic : Nat) : ∀ c ∈ Cond.classLink own ik "java/util/NoSuchElementException" :: Cond.initialized "java/util/NoSuchElementException" :: vx_at0 own ic "java/util/NoSuchElementException" zEn, vx_ot c = true := by
  intro c hc
  rcases List.mem_cons.mp hc with rfl | hc
  · rfl
  rcases List.mem_cons.mp hc with rfl | hc
  · rfl
  obtain ⟨h1, h2⟩ := List.mem_filter.mp hc
  refine (?_ : ∀ c ∈ Bundle.ownAtoms0 own ic "java/util/NoSuchElementException" zEn, vx_no c = true → vx_ot c = true) c h1 h2
  exact zatC (fun _ => rfl) (zatC (fun _ => rfl) (zatC (fun _ => rfl) (zatC (fun _ => rfl) (zatC (fun _ => rfl) (zatC (fun _ => rfl) (zatC (fun _ => rfl) (zatC (fun _ => rfl) (zatC (fun _ => rfl) (zatC (fun _ => rfl) (zatC (fun _ => rfl) (zatC (fun _ => rfl) (zatC (fun _ => rfl) (zatC (fun _ => rfl) (zatC (fun _ => rfl) (zatC (fun _ => rfl) (zatC (fun _ => rfl) (zatC (fun _ => rfl) (zatC (fun _ => rfl) (zatC (fun _ => rfl) (zatC (zatX (P := fun c => vx_ot c = true) zat_lu) (zatC (fun _ => rfl) (zatC (zatX (P := fun c => vx_ot c = true) zat_ls) (zatC (fun _ => rfl) (zatC (fun _ => rfl) (zatC (fun _ => rfl) (zatC (fun _ => rfl) (zatC (fun _ => rfl) (zatC (fun _ => rfl) (zatC (fun _ => rfl) (zatC (fun _ => rfl) (zatC (fun _ => rfl) (zatC (fun _ => rfl) (zatC (fun _ => rfl) (zatC (fun _ => rfl) (zatC (fun _ => rfl) (zatC (fun _ => rfl) (zatC (fun _ => rfl) (zatC (fun _ => rfl) (zatC (fun _ => rfl) (zatC (fun _ => rfl) (zatC (fun _ => rfl) (zatC (fun _ => rfl) (zatC (fun _ => rfl) (zatC (fun _ => rfl) (zatC (fun _ => rfl) (zatC (fun _ => rfl) (zatC (fun _ => rfl) (zatC (zatX (P := fun c => vx_ot c = true) zat_u) (zatC (zatX (P := fun c => vx_ot c = true) zat_s) (zatC (fun _ => rfl) (zatC (fun _ => rfl) (zatC (fun _ => rfl) (zatN)))))))))))))))))))))))))))))))))))))))))))))))))))))
theorem zEf_26 : Bundle.fit "java/lang/UnsupportedOperationException" = true := by decide +kernel
theorem zat_26 {own : String} {ic : Nat} (h : Cond.methodLink own ic ⟨"java/lang/UnsupportedOperationException", "<init>", "()V"⟩ ∈ lw_all) : ∀ c ∈ vx_at0 own ic "java/lang/UnsupportedOperationException" zEn, c ∈ lw_tbl ∧ (c ∈ lw_all ∨ zNwk c = true) := by
  intro c hc
  obtain ⟨h1, h2⟩ := List.mem_filter.mp hc
  refine (?_ : ∀ c ∈ Bundle.ownAtoms0 own ic "java/lang/UnsupportedOperationException" zEn, vx_no c = true → zP1 c) c h1 h2
  exact zatC (.g q116) (zatC (.g q451) (zatC (.g q460) (zatC (.g q472) (zatC (.g q475) (zatC (.g q477) (zatC (.g q452) (zatC (.g q453) (zatC (.g q182) (zatC (.g q183) (zatC (.g q454) (zatC (.g q459) (zatC (.g q473) (zatC (.g q696) (zatC (.g q441) (zatC (.g q697) (zatC (.g q443) (zatC (.g q698) (zatC (.g q445) (zatC (.g q455) (zatC (zatX zat_lu) (zatC (.g q457) (zatC (zatX zat_ls) (zatC (.g q447) (zatC (.g q2745) (zatC (.g q2746) (zatC (.g q2747) (zatC (.g q1151) (zatC (.d q432 rfl) (zatC (.g q1151) (zatC (.g q1152) (zatC (.g q1153) (zatC (.g q1154) (zatC (.d q434 rfl) (zatC (.g q1154) (zatC (.g q1155) (zatC (.g q1156) (zatC (.g q452) (zatC (.d q436 rfl) (zatC (.g h) (zatC (.g q2736) (zatC (.d q2737 rfl) (zatC (.g q2738) (zatC (.g q470) (zatC (.g q2739) (zatC (.g q2740) (zatC (.g q2741) (zatC (.g q2742) (zatC (zatX zat_u) (zatC (zatX zat_s) (zatC (.g q694) (zatC (.g q449) (zatC (.g q2743) (zatN)))))))))))))))))))))))))))))))))))))))))))))))))))))
theorem zgo_26 (own : String) (ik ic : Nat) : ∀ c ∈ Cond.classLink own ik "java/lang/UnsupportedOperationException" :: Cond.initialized "java/lang/UnsupportedOperationException" :: vx_at0 own ic "java/lang/UnsupportedOperationException" zEn, vx_ot c = true := by
  intro c hc
  rcases List.mem_cons.mp hc with rfl | hc
  · rfl
  rcases List.mem_cons.mp hc with rfl | hc
  · rfl
  obtain ⟨h1, h2⟩ := List.mem_filter.mp hc
  refine (?_ : ∀ c ∈ Bundle.ownAtoms0 own ic "java/lang/UnsupportedOperationException" zEn, vx_no c = true → vx_ot c = true) c h1 h2
  exact zatC (fun _ => rfl) (zatC (fun _ => rfl) (zatC (fun _ => rfl) (zatC (fun _ => rfl) (zatC (fun _ => rfl) (zatC (fun _ => rfl) (zatC (fun _ => rfl) (zatC (fun _ => rfl) (zatC (fun _ => rfl) (zatC (fun _ => rfl) (zatC (fun _ => rfl) (zatC (fun _ => rfl) (zatC (fun _ => rfl) (zatC (fun _ => rfl) (zatC (fun _ => rfl) (zatC (fun _ => rfl) (zatC (fun _ => rfl) (zatC (fun _ => rfl) (zatC (fun _ => rfl) (zatC (fun _ => rfl) (zatC (zatX (P := fun c => vx_ot c = true) zat_lu) (zatC (fun _ => rfl) (zatC (zatX (P := fun c => vx_ot c = true) zat_ls) (zatC (fun _ => rfl) (zatC (fun _ => rfl) (zatC (fun _ => rfl) (zatC (fun _ => rfl) (zatC (fun _ => rfl) (zatC (fun _ => rfl) (zatC (fun _ => rfl) (zatC (fun _ => rfl) (zatC (fun _ => rfl) (zatC (fun _ => rfl) (zatC (fun _ => rfl) (zatC (fun _ => rfl) (zatC (fun _ => rfl) (zatC (fun _ => rfl) (zatC (fun _ => rfl) (zatC (fun _ => rfl) (zatC (fun _ => rfl) (zatC (fun _ => rfl) (zatC (fun _ => rfl) (zatC (fun _ => rfl) (zatC (fun _ => rfl) (zatC (fun _ => rfl) (zatC (fun _ => rfl) (zatC (fun _ => rfl) (zatC (fun _ => rfl) (zatC (zatX (P := fun c => vx_ot c = true) zat_u) (zatC (zatX (P := fun c => vx_ot c = true) zat_s) (zatC (fun _ => rfl) (zatC (fun _ => rfl) (zatC (fun _ => rfl) (zatN)))))))))))))))))))))))))))))))))))))))))))))))))))))
theorem zEf_22 : Bundle.fit "java/lang/IndexOutOfBoundsException" = true := by decide +kernel
theorem zat_22 {own : String} {ic : Nat} (h : Cond.methodLink own ic ⟨"java/lang/IndexOutOfBoundsException", "<init>", "()V"⟩ ∈ lw_all) : ∀ c ∈ vx_at0 own ic "java/lang/IndexOutOfBoundsException" zEn, c ∈ lw_tbl ∧ (c ∈ lw_all ∨ zNwk c = true) := by
  intro c hc
  obtain ⟨h1, h2⟩ := List.mem_filter.mp hc
  refine (?_ : ∀ c ∈ Bundle.ownAtoms0 own ic "java/lang/IndexOutOfBoundsException" zEn, vx_no c = true → zP1 c) c h1 h2
  exact zatC (.g q116) (zatC (.g q451) (zatC (.g q460) (zatC (.g q472) (zatC (.g q475) (zatC (.g q477) (zatC (.g q452) (zatC (.g q453) (zatC (.g q182) (zatC (.g q183) (zatC (.g q454) (zatC (.g q459) (zatC (.g q473) (zatC (.g q696) (zatC (.g q441) (zatC (.g q697) (zatC (.g q443) (zatC (.g q698) (zatC (.g q445) (zatC (.g q455) (zatC (zatX zat_lu) (zatC (.g q457) (zatC (zatX zat_ls) (zatC (.g q447) (zatC (.g q3196) (zatC (.g q3197) (zatC (.g q3198) (zatC (.g q1151) (zatC (.d q432 rfl) (zatC (.g q1151) (zatC (.g q1152) (zatC (.g q1153) (zatC (.g q1154) (zatC (.d q434 rfl) (zatC (.g q1154) (zatC (.g q1155) (zatC (.g q1156) (zatC (.g q452) (zatC (.d q436 rfl) (zatC (.g h) (zatC (.g q430) (zatC (.d q431 rfl) (zatC (.g q438) (zatC (.g q439) (zatC (.g q440) (zatC (.g q442) (zatC (.g q444) (zatC (.g q446) (zatC (zatX zat_u) (zatC (zatX zat_s) (zatC (.g q694) (zatC (.g q449) (zatC (.g q448) (zatN)))))))))))))))))))))))))))))))))))))))))))))))))))))
theorem zgo_22 (own : String) (ik ic : Nat) : ∀ c ∈ Cond.classLink own ik "java/lang/IndexOutOfBoundsException" :: Cond.initialized "java/lang/IndexOutOfBoundsException" :: vx_at0 own ic "java/lang/IndexOutOfBoundsException" zEn, vx_ot c = true := by
  intro c hc
  rcases List.mem_cons.mp hc with rfl | hc
  · rfl
  rcases List.mem_cons.mp hc with rfl | hc
  · rfl
  obtain ⟨h1, h2⟩ := List.mem_filter.mp hc
  refine (?_ : ∀ c ∈ Bundle.ownAtoms0 own ic "java/lang/IndexOutOfBoundsException" zEn, vx_no c = true → vx_ot c = true) c h1 h2
  exact zatC (fun _ => rfl) (zatC (fun _ => rfl) (zatC (fun _ => rfl) (zatC (fun _ => rfl) (zatC (fun _ => rfl) (zatC (fun _ => rfl) (zatC (fun _ => rfl) (zatC (fun _ => rfl) (zatC (fun _ => rfl) (zatC (fun _ => rfl) (zatC (fun _ => rfl) (zatC (fun _ => rfl) (zatC (fun _ => rfl) (zatC (fun _ => rfl) (zatC (fun _ => rfl) (zatC (fun _ => rfl) (zatC (fun _ => rfl) (zatC (fun _ => rfl) (zatC (fun _ => rfl) (zatC (fun _ => rfl) (zatC (zatX (P := fun c => vx_ot c = true) zat_lu) (zatC (fun _ => rfl) (zatC (zatX (P := fun c => vx_ot c = true) zat_ls) (zatC (fun _ => rfl) (zatC (fun _ => rfl) (zatC (fun _ => rfl) (zatC (fun _ => rfl) (zatC (fun _ => rfl) (zatC (fun _ => rfl) (zatC (fun _ => rfl) (zatC (fun _ => rfl) (zatC (fun _ => rfl) (zatC (fun _ => rfl) (zatC (fun _ => rfl) (zatC (fun _ => rfl) (zatC (fun _ => rfl) (zatC (fun _ => rfl) (zatC (fun _ => rfl) (zatC (fun _ => rfl) (zatC (fun _ => rfl) (zatC (fun _ => rfl) (zatC (fun _ => rfl) (zatC (fun _ => rfl) (zatC (fun _ => rfl) (zatC (fun _ => rfl) (zatC (fun _ => rfl) (zatC (fun _ => rfl) (zatC (fun _ => rfl) (zatC (zatX (P := fun c => vx_ot c = true) zat_u) (zatC (zatX (P := fun c => vx_ot c = true) zat_s) (zatC (fun _ => rfl) (zatC (fun _ => rfl) (zatC (fun _ => rfl) (zatN)))))))))))))))))))))))))))))))))))))))))))))))))))))
theorem zEf_19 : Bundle.fit "java/lang/ArithmeticException" = true := by decide +kernel
theorem zat_19 {own : String} {ic : Nat} (h : Cond.methodLink own ic ⟨"java/lang/ArithmeticException", "<init>", "()V"⟩ ∈ lw_all) : ∀ c ∈ vx_at0 own ic "java/lang/ArithmeticException" zEn, c ∈ lw_tbl ∧ (c ∈ lw_all ∨ zNwk c = true) := by
  intro c hc
  obtain ⟨h1, h2⟩ := List.mem_filter.mp hc
  refine (?_ : ∀ c ∈ Bundle.ownAtoms0 own ic "java/lang/ArithmeticException" zEn, vx_no c = true → zP1 c) c h1 h2
  exact zatC (.g q116) (zatC (.g q451) (zatC (.g q460) (zatC (.g q472) (zatC (.g q475) (zatC (.g q477) (zatC (.g q452) (zatC (.g q453) (zatC (.g q182) (zatC (.g q183) (zatC (.g q454) (zatC (.g q459) (zatC (.g q473) (zatC (.g q696) (zatC (.g q441) (zatC (.g q697) (zatC (.g q443) (zatC (.g q698) (zatC (.g q445) (zatC (.g q455) (zatC (zatX zat_lu) (zatC (.g q457) (zatC (zatX zat_ls) (zatC (.g q447) (zatC (.g q3082) (zatC (.g q3083) (zatC (.g q3084) (zatC (.g q1151) (zatC (.d q432 rfl) (zatC (.g q1151) (zatC (.g q1152) (zatC (.g q1153) (zatC (.g q1154) (zatC (.d q434 rfl) (zatC (.g q1154) (zatC (.g q1155) (zatC (.g q1156) (zatC (.g q452) (zatC (.d q436 rfl) (zatC (.g h) (zatC (.g q3060) (zatC (.d q3071 rfl) (zatC (.g q3072) (zatC (.g q465) (zatC (.g q3066) (zatC (.g q3067) (zatC (.g q3069) (zatC (.g q3065) (zatC (zatX zat_u) (zatC (zatX zat_s) (zatC (.g q694) (zatC (.g q449) (zatC (.g q3064) (zatN)))))))))))))))))))))))))))))))))))))))))))))))))))))
theorem zgo_19 (own : String) (ik ic : Nat) : ∀ c ∈ Cond.classLink own ik "java/lang/ArithmeticException" :: Cond.initialized "java/lang/ArithmeticException" :: vx_at0 own ic "java/lang/ArithmeticException" zEn, vx_ot c = true := by
  intro c hc
  rcases List.mem_cons.mp hc with rfl | hc
  · rfl
  rcases List.mem_cons.mp hc with rfl | hc
  · rfl
  obtain ⟨h1, h2⟩ := List.mem_filter.mp hc
  refine (?_ : ∀ c ∈ Bundle.ownAtoms0 own ic "java/lang/ArithmeticException" zEn, vx_no c = true → vx_ot c = true) c h1 h2
  exact zatC (fun _ => rfl) (zatC (fun _ => rfl) (zatC (fun _ => rfl) (zatC (fun _ => rfl) (zatC (fun _ => rfl) (zatC (fun _ => rfl) (zatC (fun _ => rfl) (zatC (fun _ => rfl) (zatC (fun _ => rfl) (zatC (fun _ => rfl) (zatC (fun _ => rfl) (zatC (fun _ => rfl) (zatC (fun _ => rfl) (zatC (fun _ => rfl) (zatC (fun _ => rfl) (zatC (fun _ => rfl) (zatC (fun _ => rfl) (zatC (fun _ => rfl) (zatC (fun _ => rfl) (zatC (fun _ => rfl) (zatC (zatX (P := fun c => vx_ot c = true) zat_lu) (zatC (fun _ => rfl) (zatC (zatX (P := fun c => vx_ot c = true) zat_ls) (zatC (fun _ => rfl) (zatC (fun _ => rfl) (zatC (fun _ => rfl) (zatC (fun _ => rfl) (zatC (fun _ => rfl) (zatC (fun _ => rfl) (zatC (fun _ => rfl) (zatC (fun _ => rfl) (zatC (fun _ => rfl) (zatC (fun _ => rfl) (zatC (fun _ => rfl) (zatC (fun _ => rfl) (zatC (fun _ => rfl) (zatC (fun _ => rfl) (zatC (fun _ => rfl) (zatC (fun _ => rfl) (zatC (fun _ => rfl) (zatC (fun _ => rfl) (zatC (fun _ => rfl) (zatC (fun _ => rfl) (zatC (fun _ => rfl) (zatC (fun _ => rfl) (zatC (fun _ => rfl) (zatC (fun _ => rfl) (zatC (fun _ => rfl) (zatC (zatX (P := fun c => vx_ot c = true) zat_u) (zatC (zatX (P := fun c => vx_ot c = true) zat_s) (zatC (fun _ => rfl) (zatC (fun _ => rfl) (zatC (fun _ => rfl) (zatN)))))))))))))))))))))))))))))))))))))))))))))))))))))
section ZEX
variable {w : WT} {g : GT} {y : MethodName} {cc : ByteArray} {nL : Nat} {ret : Option FieldType} {hh : List (Nat × Nat × Nat × Nat)} {fr lo : Nat} {K : Out → Mem → Prop} {mc ms pc : Nat} {lv : List (Nat × TV)} {st : List TV} {μ : Mem} {kc ks : Nat}
theorem z_getClass2 (C : Cx w g y cc nL ret hh fr lo) {index k0 a ci : Nat} {q : vw_C} {r : Option Nat} (hz : zmir[k0]? = some q.1) (q1 : Cond.methodLink y.cls index ⟨"java/lang/Object", "getClass", "()Ljava/lang/Class;"⟩ ∈ lw_all) (q2 : Cond.selects q.1 ⟨"java/lang/Object", "getClass", "()Ljava/lang/Class;"⟩ ⟨"java/lang/Object", "getClass", "()Ljava/lang/Class;"⟩ ∈ lw_all) (q3 : Cond.instanceMethod ⟨"java/lang/Object", "getClass", "()Ljava/lang/Class;"⟩ ∈ lw_all) (q4 : Cond.native ⟨"java/lang/Object", "getClass", "()Ljava/lang/Class;"⟩ ∈ lw_all)
    (hr : r = some a) (h0 : ci ≠ 0) (hc0 : zC μ a = ci) (hc : zcl[ci]? = some q) (hR : 1 ≤ fr ∧ (st.map fun a => if tcat a then 2 else 1).sum + 14 ≤ lo) (hd : decode cc pc = .ok (.invokevirtual index, 3)) (k : Z w g K mc ms (pc + 3) lv (tR (some (zMi w k0)) :: st) μ kc ks) : Z w g K mc ms pc lv (tR r :: st) μ kc ks :=
  z_getClass C hz q1 q2 q3 q4 hr (by rw [hc0]; exact h0) (by rw [hc0]; exact hc) hR hd k
theorem zArr120 (C : Cx w g y cc nL ret hh fr lo) : (gs g).vm.findClass "[Ljava/lang/Object;" = some ((zG w).1 120) := va_nmO (C.kw.2.1.2 4 _ rfl).2 (by decide)
theorem zArr102 (C : Cx w g y cc nL ret hh fr lo) : (gs g).vm.findClass "[B" = some ((zG w).1 102) := (C.kw.2.1.2 1 _ rfl).2
theorem z_getClassA (C : Cx w g y cc nL ret hh fr lo) {index k0 a : Nat} {r : Option Nat} (hz : zmir[k0]? = some "[Ljava/lang/Object;") (q1 : Cond.methodLink y.cls index ⟨"java/lang/Object", "getClass", "()Ljava/lang/Class;"⟩ ∈ lw_all) (q2 : Cond.selects "[Ljava/lang/Object;" ⟨"java/lang/Object", "getClass", "()Ljava/lang/Class;"⟩ ⟨"java/lang/Object", "getClass", "()Ljava/lang/Class;"⟩ ∈ lw_all) (q3 : Cond.instanceMethod ⟨"java/lang/Object", "getClass", "()Ljava/lang/Class;"⟩ ∈ lw_all) (q4 : Cond.native ⟨"java/lang/Object", "getClass", "()Ljava/lang/Class;"⟩ ∈ lw_all)
    (hr : r = some a) (hc : zC μ a = 120) (hR : 1 ≤ fr ∧ (st.map fun a => if tcat a then 2 else 1).sum + 14 ≤ lo) (hd : decode cc pc = .ok (.invokevirtual index, 3)) (k : Z w g K mc ms (pc + 3) lv (tR (some (zMi w k0)) :: st) μ kc ks) : Z w g K mc ms pc lv (tR r :: st) μ kc ks := by
  intro H locs ls hRp hb hl d e f
  subst hr
  obtain ⟨cell, h1, h2, h3, h4, h5, h6⟩ := zCell hRp (by decide) hc
  exact va_getC C.1 C.2.1 d.1.symm C.own (C.ts _ q1) (va_Dc.use C.kw.2.2.2.2.2.2.2.2.2.1) (C.ts _ q2) (C.ts _ q3) (C.ts _ q4) (C.kw.2.2.2.2.2.2.2.2.1 k0 _ hz) ⟨cell, h1, h5, by rw [zArr120 C, h2]⟩ (by show 1 ≤ gf g; rw [C.2.2.2.2.2.2.2.2.2.2.2.1]; exact hR.1) (by show _ ≤ gl g; rw [zSum, C.2.2.2.2.2.2.2.2.2.2.2.2]; exact hR.2) hd (k H locs ls hRp hb hl d e f)
theorem z_castAr (C : Cx w g y cc nL ret hh fr lo) {index ci : Nat} {nm : String} {r : Option Nat} (hnm : (gs g).vm.findClass nm = some ((zG w).1 ci)) (h0 : ci ≠ 0) (hq : Cond.classLink y.cls index nm ∈ lw_all) (hc : ∀ a, r = some a → zC μ a = ci) (hd : decode cc pc = .ok (.checkcast index, 3)) (k : Z w g K mc ms (pc + 3) lv (tR r :: st) μ kc ks) : Z w g K mc ms pc lv (tR r :: st) μ kc ks := by
  intro H locs ls hRp hb hl d e f
  cases r with
  | none => exact lv_castN C.1 C.2.1 hd (k H locs ls hRp hb hl d e f)
  | some a =>
    obtain ⟨cell, h1, h2, h3, h4, h5, h6⟩ := zCell hRp h0 (hc a rfl)
    intro T hT X
    obtain ⟨vm', X', st'⟩ := X.checkcastYes C.1 C.own (C.ts _ hq) (by rw [hT]; exact h1) h5 hnm (by rw [h2]; exact va_asg _ _) (g := F0 (gm g) pc ls (.ref a :: st.map tv)) rfl rfl (by rw [C.2.1]; exact hd)
    obtain ⟨t, a1, b1⟩ := k H locs ls hRp hb hl d e f (T.setVm vm') hT X'
    exact ⟨t, st' t a1, b1⟩
theorem z_castA102 (C : Cx w g y cc nL ret hh fr lo) {index : Nat} {r : Option Nat} (hq : Cond.classLink y.cls index "[B" ∈ lw_all) (hc : ∀ a, r = some a → zC μ a = 102) (hd : decode cc pc = .ok (.checkcast index, 3)) (k : Z w g K mc ms (pc + 3) lv (tR r :: st) μ kc ks) : Z w g K mc ms pc lv (tR r :: st) μ kc ks := z_castAr C (zArr102 C) (by decide) hq hc hd k
theorem z_castA120 (C : Cx w g y cc nL ret hh fr lo) {index : Nat} {r : Option Nat} (hq : Cond.classLink y.cls index "[Ljava/lang/Object;" ∈ lw_all) (hc : ∀ a, r = some a → zC μ a = 120) (hd : decode cc pc = .ok (.checkcast index, 3)) (k : Z w g K mc ms (pc + 3) lv (tR r :: st) μ kc ks) : Z w g K mc ms pc lv (tR r :: st) μ kc ks := z_castAr C (zArr120 C) (by decide) hq hc hd k
theorem zSelI {A : Array Value} {s : State} {C : String} (hface : (Cond.interfaceMethod "java/util/Collection" "java/lang/Object" "getClass" "()Ljava/lang/Class;").before A s = true) (hsel : (Cond.selects C zgcN zgcN).before A s = true) : (Cond.selects C ⟨"java/util/Collection", "getClass", "()Ljava/lang/Class;"⟩ zgcN).before A s = true := by
  obtain ⟨cL, kL, r1, hcL, hkL, hiL, hfoundL, hn1⟩ := Cond.interfaceMethod_spec hface
  have hO : s.methodFound? zgcN.cls zgcN.name zgcN.desc = some r1 := State.methodFound?_of_named hn1 (by decide)
  simp only [Cond.before, Cond.holds, Cond.value] at hsel ⊢
  rw [hO] at hsel
  rw [hfoundL]
  exact hsel
theorem z_getClassI (C : Cx w g y cc nL ret hh fr lo) {index count k0 a ci : Nat} {q : vw_C} {r : Option Nat} (hz : zmir[k0]? = some q.1) (q1 : Cond.methodLink y.cls index ⟨"java/util/Collection", "getClass", "()Ljava/lang/Class;"⟩ ∈ lw_all) (q2 : Cond.selects q.1 zgcN zgcN ∈ lw_all) (q3 : Cond.instanceMethod zgcN ∈ lw_all) (q4 : Cond.native zgcN ∈ lw_all)
    (hin : q.1 ∈ ["java/util/TreeMap$KeySet", "java/util/TreeMap$Values"]) (hr : r = some a) (h0 : ci ≠ 0) (hc0 : zC μ a = ci) (hc : zcl[ci]? = some q) (hR : 1 ≤ fr ∧ (st.map fun a => if tcat a then 2 else 1).sum + 14 ≤ lo) (hd : decode cc pc = .ok (.invokeinterface index count, 5)) (k : Z w g K mc ms (pc + 5) lv (tR (some (zMi w k0)) :: st) μ kc ks) : Z w g K mc ms pc lv (tR r :: st) μ kc ks := by
  intro H locs ls hRp hb hl d e f
  subst hr
  obtain ⟨c0, k1, h1, h2, h3⟩ := C.kw.2.2.2.2.2.2.2.2.1 k0 _ hz
  obtain ⟨cell, g1, g2, g3⟩ := zRecv C hRp h0 hc0 hc
  have D := (zDef8 C).2.2.2.2.2.2.2
  cases h1.symm.trans g3
  intro T hT X
  obtain ⟨vm', X', st'⟩ := X.getClassOfI C.1 C.own (C.ts _ q1) (va_Dc.use C.kw.2.2.2.2.2.2.2.2.2.1) (va_tabs rfl rfl D.1) (zSelI (va_tabs rfl rfl D.1) (C.ts _ q2)) (C.ts _ q3) (va_tabs rfl rfl D.2.1) (va_tabs rfl rfl (D.2.2 _ hin).1) (va_tabs rfl rfl (D.2.2 _ hin).2) (C.ts _ q4) (by decide) (by decide) rfl rfl h1 h2 ⟨cell, by rw [hT]; exact g1, rfl, g2⟩ h3 (g := F0 (gm g) pc ls (.ref a :: st.map tv)) rfl (by show ls.size = _; exact d.1) rfl (by rw [C.2.1]; exact hd) (by show 1 ≤ gf g; rw [C.2.2.2.2.2.2.2.2.2.2.2.1]; exact hR.1) (by
    show 2 * 0 + _ + _ ≤ gl g
    have hw : nativeFrameWords "java/lang/Object" "getClass" 1 = 3 := by decide
    have h9 := hR.2
    rw [zSum, C.2.2.2.2.2.2.2.2.2.2.2.2]; omega)
  obtain ⟨t, a1, b1⟩ := k H locs ls hRp hb hl d e f (T.setVm vm') hT X'
  exact ⟨t, st' t a1, b1⟩
end ZEX
