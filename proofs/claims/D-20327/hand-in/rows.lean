section
/-! plain arithmetic of the two ways to take a pair of halves apart; no program in sight. sp_and began as nx_and of kit/laws/BITS.to-paste -/
theorem sp_and (a b : Nat) : nI a &&& nI b = nI (a &&& b) := by
  apply Int32.toBitVec_inj.1
  show BitVec.ofNat 32 a &&& BitVec.ofNat 32 b = BitVec.ofNat 32 (a &&& b)
  apply BitVec.eq_of_getLsbD_eq
  intro i hi
  simp [hi]
/-- the upper six of a char's sixteen bits -/
theorem sp_top {n : Nat} (h : n < 65536) : n &&& 64512 = n / 1024 * 1024 := by
  have h1 : (n &&& 64512) / 2 ^ 10 = n / 1024 := by
    rw [Nat.and_div_two_pow]
    show n / 1024 &&& (2 ^ 6 - 1) = _
    rw [Nat.and_two_pow_sub_one_eq_mod]
    omega
  have h2 : (n &&& 64512) % 2 ^ 10 = 0 := by
    rw [Nat.and_mod_two_pow]
    show n % 2 ^ 10 &&& 0 = 0
    exact Nat.and_zero _
  omega
theorem sp_topI {n : Nat} (h : n < 65536) : nI n &&& 64512 = nI (n / 1024 * 1024) := by
  show nI n &&& nI 64512 = _
  rw [sp_and, sp_top h]
/-- the mask's word on a high half is the range's -/
theorem sp_high {n : Nat} (h : n < 65536) : nI n &&& 64512 = 55296 ↔ 55296 ≤ n ∧ n < 56320 := by
  rw [sp_topI h]
  show nI (n / 1024 * 1024) = nI 55296 ↔ _
  rw [nI_eq (by omega) (by omega)]
  omega
/-- the mask's word on a low half is the range's -/
theorem sp_low {n : Nat} (h : n < 65536) : nI n &&& 64512 = 56320 ↔ 56320 ≤ n ∧ n < 57344 := by
  rw [sp_topI h]
  show nI (n / 1024 * 1024) = nI 56320 ↔ _
  rw [nI_eq (by omega) (by omega)]
  omega
/-- the pair's place: the answer of both methods -/
def sp_off (h l : Nat) : Int32 := if (55296 ≤ h ∧ h < 56320) ∧ (56320 ≤ l ∧ l < 57344) then nI (h % 1024 * 1024 + l % 1024) else -1
theorem sp_off_in {h l : Nat} (h1 : 55296 ≤ h) (h2 : h < 56320) (l1 : 56320 ≤ l) (l2 : l < 57344) : sp_off h l = nI (h % 1024 * 1024 + l % 1024) := by
  unfold sp_off
  rw [if_pos ⟨⟨h1, h2⟩, ⟨l1, l2⟩⟩]
theorem sp_off_h {h l : Nat} (n : ¬ (55296 ≤ h ∧ h < 56320)) : sp_off h l = -1 := by
  unfold sp_off
  rw [if_neg (fun z => n z.1)]
theorem sp_off_l {h l : Nat} (n : ¬ (56320 ≤ l ∧ l < 57344)) : sp_off h l = -1 := by
  unfold sp_off
  rw [if_neg (fun z => n z.2)]
/-- the class's sum, less the first code above the one-sign codes -/
theorem sp_sum {h l : Nat} (h1 : 55296 ≤ h) (h2 : h < 56320) (l1 : 56320 ≤ l) (l2 : l < 57344) : (((nI h <<< ((10 : Int32) &&& 31)) + nI l) + (-56613888)) - 65536 = sp_off h l := by
  rw [sp_off_in h1 h2 l1 l2, pk_shlN _ 10 (by decide) (by omega), nI_add]
  have e : h * 2 ^ 10 + l = 56679424 + (h % 1024 * 1024 + l % 1024) := by omega
  rw [e, ← nI_add 56679424]
  generalize nI (h % 1024 * 1024 + l % 1024) = x
  show ((56679424 : Int32) + x + (-56613888)) - 65536 = x
  grind
/-- the twin's sum of the two masked halves -/
theorem sp_mask {h l : Nat} (h1 : 55296 ≤ h) (h2 : h < 56320) (l1 : 56320 ≤ l) (l2 : l < 57344) : ((nI h &&& 1023) <<< ((10 : Int32) &&& 31)) + (nI l &&& 1023) = sp_off h l := by
  rw [sp_off_in h1 h2 l1 l2, pk_andN (n := h) (m := 1023) (by omega) 10 (by decide), pk_andN (n := l) (m := 1023) (by omega) 10 (by decide), pk_shlN _ 10 (by decide) (by omega), nI_add]
end
section
/-! the walk: each method once, its post general -/
theorem sp_J_high {post : Int32 → Prop} {h : Nat} (hh : h < 65536) (ht : 55296 ≤ h ∧ h < 56320 → post 1) (hf : ¬ (55296 ≤ h ∧ h < 56320) → post 0) : wpJ11_isHighSurrogate_fc78d_565d2 post () (nI h) := by
  unfold wpJ11_isHighSurrogate_fc78d_565d2
  exact pk_lt h 55296 (fun z => hf (by omega)) (fun z => pk_le 56320 h (fun y => hf (by omega)) (fun y => ht ⟨z, y⟩))
theorem sp_J_low {post : Int32 → Prop} {l : Nat} (hl : l < 65536) (ht : 56320 ≤ l ∧ l < 57344 → post 1) (hf : ¬ (56320 ≤ l ∧ l < 57344) → post 0) : wpJ11_isLowSurrogate_fc78d_565d2 post () (nI l) := by
  unfold wpJ11_isLowSurrogate_fc78d_565d2
  exact pk_lt l 56320 (fun z => hf (by omega)) (fun z => pk_le 57344 l (fun y => hf (by omega)) (fun y => ht ⟨z, y⟩))
theorem sp_J_pair {post : Int32 → Prop} {h l : Nat} (hh : h < 65536) (hl : l < 65536) (ht : (55296 ≤ h ∧ h < 56320) → (56320 ≤ l ∧ l < 57344) → post 1) (hf : ¬ (55296 ≤ h ∧ h < 56320) ∨ ¬ (56320 ≤ l ∧ l < 57344) → post 0) : wpJ11_isSurrogatePair_f6f76_48e5c post () (nI h) (nI l) := by
  unfold wpJ11_isSurrogatePair_f6f76_48e5c
  refine sp_J_high hh (fun z => br_f (by decide) (sp_J_low hl (fun y => br_f (by decide) (ht z y)) (fun y => br_t rfl (hf (Or.inr y))))) (fun z => br_t rfl (hf (Or.inl z)))
/-- the class's method answers the pair's place -/
theorem sp_X1 {post : Int32 → Prop} {h l : Nat} (hh : h < 65536) (hl : l < 65536) (hp : post (sp_off h l)) : wpX1_pairOffset post () (nI h) (nI l) := by
  unfold wpX1_pairOffset
  refine sp_J_pair hh hl (fun z y => br_f (by decide) ?_) (fun z => br_t rfl ?_)
  · unfold wpJ11_toCodePoint_2af7c_48e5c
    exact ek_v (P := post) (sp_sum z.1 z.2 y.1 y.2) hp
  · rcases z with z | z
    · rw [sp_off_h z] at hp
      exact hp
    · rw [sp_off_l z] at hp
      exact hp
/-- the twin's method answers it too -/
theorem sp_X2 {post : Int32 → Prop} {h l : Nat} (hh : h < 65536) (hl : l < 65536) (hp : post (sp_off h l)) : wpX2_pairOffset post () (nI h) (nI l) := by
  unfold wpX2_pairOffset
  refine br_c (fun z => ?_) (fun z => ?_)
  · have z' := (sp_high hh).mp z
    unfold wX2_pairOffset_14
    refine br_c (fun y => ?_) (fun y => ?_)
    · have y' := (sp_low hl).mp y
      unfold wX2_pairOffset_29
      exact br_f (by decide) (br_f (by decide) (ek_v (P := post) (sp_mask z'.1 z'.2 y'.1 y'.2) hp))
    · rw [sp_off_l (fun t => y ((sp_low hl).mpr t))] at hp
      unfold wX2_pairOffset_29
      exact br_f (by decide) (br_t rfl hp)
  · rw [sp_off_h (fun t => z ((sp_high hh).mpr t))] at hp
    unfold wX2_pairOffset_14 wX2_pairOffset_29
    exact br_c (fun _ => br_t rfl hp) (fun _ => br_t rfl hp)
theorem sp_41 {h l : Nat} (hh : h < 65536) (hl : l < 65536) : wL_lawOf_41 (fun r => r = 1) (nI h) (nI l) := by
  unfold wL_lawOf_41
  exact sp_X1 hh hl (sp_X2 hh hl (br_t rfl rfl))
/-- any two ints cast to chars -/
theorem sp_41c (x y : Int32) : wL_lawOf_41 (fun r => r = 1) ((x.toUInt32 % 65536).toInt32) ((y.toUInt32 % 65536).toInt32) := by
  rw [pk_char x, pk_char y]
  exact sp_41 (Nat.mod_lt _ (by decide)) (Nat.mod_lt _ (by decide))
theorem sp_20 (p1 p2 x : Int32) : wL_lawOf_20 (fun r => r = 1) p1 p2 ((x.toUInt32 % 65536).toInt32) := by
  unfold wL_lawOf_20
  exact br_c (fun _ => sp_41c x _) (fun _ => sp_41c x _)
theorem sp_lawOf (p0 p1 p2 : Int32) : wpL_lawOf (fun r => r = 1) () p0 p1 p2 := by
  unfold wpL_lawOf
  exact br_c (fun _ => sp_20 p1 p2 _) (fun _ => sp_20 p1 p2 _)
/-- a cell of the script, whatever it holds -/
theorem sp_cell {post : Int32 → Prop} {L : Nat} {xs : Nat → Int32} (hL : L ≤ 3) (k : Nat) (hk : k < 3) (H : ∀ r, post r) : wpL_cellAt post L xs () (nI k) := by
  unfold wpL_cellAt
  exact pk_le L k (fun _ => H 0) (fun z => ⟨pk_in k L z, H _⟩)
end
section
theorem i_vc (xs : Nat → Int32) (L : Nat) (hL : L ≤ 3) : wpL_law (fun r => r = 1) L xs := by
  unfold wpL_law
  exact sp_cell hL 0 (by decide) (fun a => sp_cell hL 1 (by decide) (fun b => sp_cell hL 2 (by decide) (fun c => sp_lawOf a b c)))
end
