section
/-! rows on bits and bytes: from kit/rows (bt family, bp_b, pk_us, pk_un, pk_vb, pk_vs), and behind them the four bytes of an int -/
theorem pk_us {f : Nat → Int32} {k : Nat} {x : Int32} : upd f k x k = x := if_pos rfl
theorem pk_un {f : Nat → Int32} {k j : Nat} {x : Int32} (h : j ≠ k) : upd f k x j = f j := if_neg h
theorem pk_vb (z : Int32) : vp_nar .byte z.toInt8.toInt32 = z.toInt8.toInt32 := by rw [vp_nar_byte]; simp
theorem pk_vs (z : Int32) : vp_nar .short z.toInt16.toInt32 = z.toInt16.toInt32 := by rw [vp_nar_short]; simp
def bt (x : Int32) (i : Nat) : Bool := x.toBitVec.getLsbD i
theorem b_ext {x y : Int32} (h : ∀ i, i < 32 → bt x i = bt y i) : x = y := Int32.toBitVec_inj.mp (BitVec.eq_of_getLsbD_eq (fun i hi => h i hi))
theorem b_or (x y : Int32) (i : Nat) : bt (x ||| y) i = (bt x i || bt y i) := by unfold bt; rw [Int32.toBitVec_or, BitVec.getLsbD_or]
theorem b_and (x y : Int32) (i : Nat) : bt (x &&& y) i = (bt x i && bt y i) := by unfold bt; rw [Int32.toBitVec_and, BitVec.getLsbD_and]
theorem b_xor (x y : Int32) (i : Nat) : bt (x ^^^ y) i = (bt x i ^^ bt y i) := by unfold bt; rw [Int32.toBitVec_xor, BitVec.getLsbD_xor]
theorem b_big {x : Int32} {i : Nat} (h : 32 ≤ i) : bt x i = false := BitVec.getLsbD_of_ge _ _ h
theorem b_255 (i : Nat) : bt 255 i = decide (i < 8) := by
  rcases Nat.lt_or_ge i 32 with h | h
  · exact (by decide +kernel : ∀ i, i < 32 → bt 255 i = decide (i < 8)) i h
  · rw [b_big h, decide_eq_false (by omega)]
theorem s_l : ∀ n, n < 32 → ((nI n &&& 31).toBitVec.smod 32).toNat = n := by decide +kernel
theorem s_u : ∀ n, n < 32 → (((nI n).toUInt32 &&& Int32.toUInt32 31).toBitVec % 32).toNat = n := by decide +kernel
theorem b_shl (n : Nat) (hn : n < 32) (x : Int32) {i : Nat} (hi : i < 32) : bt (x <<< (nI n &&& 31)) i = (decide (n ≤ i) && bt x (i - n)) := by
  unfold bt
  rw [Int32.toBitVec_shiftLeft]
  show (x.toBitVec <<< ((nI n &&& 31).toBitVec.smod 32).toNat).getLsbD i = _
  rw [s_l n hn, BitVec.getLsbD_shiftLeft]
  rcases Nat.lt_or_ge i n with h | h
  · simp [h, Nat.not_le.mpr h]
  · simp [hi, h, Nat.not_lt.mpr h]
theorem b_ushr (n : Nat) (hn : n < 32) (x : Int32) (i : Nat) : bt ((x.toUInt32 >>> ((nI n).toUInt32 &&& Int32.toUInt32 31)).toInt32) i = bt x (n + i) := by
  show (x.toUInt32 >>> ((nI n).toUInt32 &&& Int32.toUInt32 31)).toBitVec.getLsbD i = x.toUInt32.toBitVec.getLsbD (n + i)
  rw [UInt32.toBitVec_shiftRight]
  show (x.toUInt32.toBitVec >>> (((nI n).toUInt32 &&& Int32.toUInt32 31).toBitVec % 32).toNat).getLsbD i = _
  rw [s_u n hn, BitVec.getLsbD_ushiftRight]
theorem b_shl8 (x : Int32) {i : Nat} (hi : i < 32) : bt (x <<< ((8 : Int32) &&& 31)) i = (decide (8 ≤ i) && bt x (i - 8)) := b_shl 8 (by omega) x hi
theorem b_shl16 (x : Int32) {i : Nat} (hi : i < 32) : bt (x <<< ((16 : Int32) &&& 31)) i = (decide (16 ≤ i) && bt x (i - 16)) := b_shl 16 (by omega) x hi
theorem b_shl24 (x : Int32) {i : Nat} (hi : i < 32) : bt (x <<< ((24 : Int32) &&& 31)) i = (decide (24 ≤ i) && bt x (i - 24)) := b_shl 24 (by omega) x hi
theorem bp_b (x : Int32) : x.toInt8.toInt32 &&& 255 = x &&& 255 := by
  apply Int32.toBitVec_inj.mp
  rw [Int32.toBitVec_and, Int32.toBitVec_and, Int8.toBitVec_toInt32, Int32.toBitVec_toInt8]
  apply BitVec.eq_of_getLsbD_eq
  intro i hi
  rw [BitVec.getLsbD_and, BitVec.getLsbD_and]
  have hm : ∀ i < 32, 8 ≤ i → (255 : Int32).toBitVec.getLsbD i = false := by decide
  rcases Nat.lt_or_ge i 8 with z | z
  · rw [BitVec.getLsbD_signExtend, BitVec.getLsbD_signExtend, if_pos z, if_pos hi]
    simp only [z, hi, decide_true, Bool.true_and]
  · rw [hm i hi z]; simp
theorem pm_u8 (x : Int32) (i : Nat) : bt ((x.toUInt32 >>> ((8 : Int32).toUInt32 &&& Int32.toUInt32 31)).toInt32) i = bt x (8 + i) := b_ushr 8 (by omega) x i
theorem pm_u16 (x : Int32) (i : Nat) : bt ((x.toUInt32 >>> ((16 : Int32).toUInt32 &&& Int32.toUInt32 31)).toInt32) i = bt x (16 + i) := b_ushr 16 (by omega) x i
theorem pm_u24 (x : Int32) (i : Nat) : bt ((x.toUInt32 >>> ((24 : Int32).toUInt32 &&& Int32.toUInt32 31)).toInt32) i = bt x (24 + i) := b_ushr 24 (by omega) x i
/-- what the store keeps of an int's four bytes, highest first -/
def pm_b1 (x : Int32) : Int32 := vp_nar .byte (((x.toUInt32 >>> ((24 : Int32).toUInt32 &&& Int32.toUInt32 31)).toInt32).toInt8.toInt32)
def pm_b2 (x : Int32) : Int32 := vp_nar .byte (((x.toUInt32 >>> ((16 : Int32).toUInt32 &&& Int32.toUInt32 31)).toInt32).toInt8.toInt32)
def pm_b3 (x : Int32) : Int32 := vp_nar .byte (((x.toUInt32 >>> ((8 : Int32).toUInt32 &&& Int32.toUInt32 31)).toInt32).toInt8.toInt32)
def pm_b4 (x : Int32) : Int32 := vp_nar .byte x.toInt8.toInt32
/-- four bytes read back as one int -/
def pm_j4 (a b c d : Int32) : Int32 := ((((a &&& 255) <<< ((24 : Int32) &&& 31)) ||| ((b &&& 255) <<< ((16 : Int32) &&& 31))) ||| ((c &&& 255) <<< ((8 : Int32) &&& 31))) ||| (d &&& 255)
theorem pm_join (x : Int32) : pm_j4 (pm_b1 x) (pm_b2 x) (pm_b3 x) (pm_b4 x) = x := by
  unfold pm_j4 pm_b1 pm_b2 pm_b3 pm_b4
  rw [pk_vb, pk_vb, pk_vb, pk_vb, bp_b, bp_b, bp_b, bp_b]
  apply b_ext
  intro i hi
  rw [b_or, b_or, b_or, b_shl24 _ hi, b_shl16 _ hi, b_shl8 _ hi, b_and, b_and, b_and, b_and, b_255, b_255, b_255, b_255, pm_u24, pm_u16, pm_u8]
  rcases Nat.lt_or_ge i 8 with h1 | h1
  · simp only [decide_eq_false (show ¬ 24 ≤ i by omega), decide_eq_false (show ¬ 16 ≤ i by omega), decide_eq_false (show ¬ 8 ≤ i by omega), decide_eq_true h1, Bool.false_and, Bool.and_true, Bool.false_or]
  · rcases Nat.lt_or_ge i 16 with h2 | h2
    · simp only [decide_eq_false (show ¬ 24 ≤ i by omega), decide_eq_false (show ¬ 16 ≤ i by omega), decide_eq_true h1, decide_eq_false (show ¬ i < 8 by omega), decide_eq_true (show i - 8 < 8 by omega), show 8 + (i - 8) = i by omega, Bool.false_and, Bool.true_and, Bool.and_true, Bool.and_false, Bool.false_or, Bool.or_false]
    · rcases Nat.lt_or_ge i 24 with h3 | h3
      · simp only [decide_eq_false (show ¬ 24 ≤ i by omega), decide_eq_true h2, decide_eq_true h1, decide_eq_false (show ¬ i < 8 by omega), decide_eq_false (show ¬ i - 8 < 8 by omega), decide_eq_true (show i - 16 < 8 by omega), show 16 + (i - 16) = i by omega, Bool.false_and, Bool.true_and, Bool.and_true, Bool.and_false, Bool.false_or, Bool.or_false]
      · simp only [decide_eq_true h3, decide_eq_true h2, decide_eq_true h1, decide_eq_false (show ¬ i < 8 by omega), decide_eq_false (show ¬ i - 8 < 8 by omega), decide_eq_false (show ¬ i - 16 < 8 by omega), decide_eq_true (show i - 24 < 8 by omega), show 24 + (i - 24) = i by omega, Bool.true_and, Bool.and_true, Bool.and_false, Bool.or_false]
theorem pm_j40 : pm_j4 0 0 0 0 = 0 := by decide +kernel
/-- a type is 1 .. 5: the byte read unsigned is the short -/
theorem pm_tyN : ∀ t, t < 6 → (nI t).toInt8.toInt32 &&& 255 = (nI t).toInt16.toInt32 := by decide +kernel
theorem pm_ty {t : Int32} (h : ¬ t < 1) (h' : t ≤ 5) : pm_b4 t &&& 255 = vp_nar .short t.toInt16.toInt32 := by
  have e0 : (0 : Int32).toInt = 0 := by decide
  have e1 : (1 : Int32).toInt = 1 := by decide
  have h0 : ¬ t < 0 := by
    rw [Int32.lt_iff_toInt_lt] at h ⊢
    omega
  obtain ⟨j, hj, rfl⟩ := nI_of2 (M := 5) (n := 5) (by decide) h0 h'
  unfold pm_b4
  rw [pk_vb, pk_vs]
  exact pm_tyN j (by omega)
theorem pm_mp (p : Int32) : p - ((p - 2) - (p - 2) / 5 * 5) = (((p - 2) / 5) * 5) + 2 := by
  generalize (p - 2) / 5 * 5 = q
  grind
end
section
/-! the place of a page's entry, what put writes there and what the readers read -/
/-- the pages that have an entry -/
def pm_ok (j : Nat) : Prop := j < 17 ∧ 2 < j ∧ j ≠ 7 ∧ j ≠ 12
/-- the first cell of page j's entry -/
def pm_of (j : Nat) : Nat := (j - 2) / 5 * 20 + 5 * ((j - 2) % 5 - 1)
theorem pm_off : ∀ j, j < 17 → 2 < j → j ≠ 7 → j ≠ 12 → (((((((nI j - 2) / 5) * 5) + 2) - 2) / 5) * 20) + (5 * ((nI j - ((((nI j - 2) / 5) * 5) + 2)) - 1)) = nI (pm_of j) := by decide +kernel
theorem pm_rng : ∀ j, j < 17 → 2 < j → j ≠ 7 → j ≠ 12 → pm_of j + 5 ≤ 60 := by decide +kernel
theorem pm_dis {i j : Nat} (hi : pm_ok i) (hj : pm_ok j) (e : i ≠ j) : pm_of i + 5 ≤ pm_of j ∨ pm_of j + 5 ≤ pm_of i := by
  obtain ⟨a1, a2, a3, a4⟩ := hi
  obtain ⟨b1, b2, b3, b4⟩ := hj
  unfold pm_of
  omega
theorem pm_pg {p : Int32} (h : ¬ p < 2) (h' : p ≤ 16) : ∃ j : Nat, 2 ≤ j ∧ j ≤ 16 ∧ p = nI j := by
  have e0 : (0 : Int32).toInt = 0 := by decide
  have e2 : (2 : Int32).toInt = 2 := by decide
  have h0 : ¬ p < 0 := by
    rw [Int32.lt_iff_toInt_lt] at h ⊢
    omega
  obtain ⟨j, hj, rfl⟩ := nI_of2 (M := 16) (n := 16) (by decide) h0 h'
  refine ⟨j, ?_, hj, rfl⟩
  rw [Int32.lt_iff_toInt_lt, nI_toInt (by omega)] at h
  omega
theorem pm_okP {j : Nat} (h : 2 ≤ j) (h' : j ≤ 16) (h2 : ¬ nI j = 2) (h7 : ¬ nI j = 7) (h12 : ¬ nI j = 12) : pm_ok j := by
  have a2 : j ≠ 2 := fun z => h2 (z ▸ rfl)
  have a7 : j ≠ 7 := fun z => h7 (z ▸ rfl)
  have a12 : j ≠ 12 := fun z => h12 (z ▸ rfl)
  exact ⟨by omega, by omega, a7, a12⟩
theorem pm_c2 {j : Nat} (h : pm_ok j) : ¬ nI j < 2 := nI_nlt (b := 2) (Nat.le_of_lt h.2.1) (Nat.lt_trans h.1 (by decide))
theorem pm_c16 {j : Nat} (h : pm_ok j) : nI j ≤ 16 := nI_le (b := 16) (Nat.le_of_lt_succ h.1) (by decide)
theorem pm_n2 {j : Nat} (h : pm_ok j) : ¬ nI j = 2 := fun z => absurd ((nI_eq (b := 2) (Nat.lt_trans h.1 (by decide)) (by decide)).mp z) (Nat.ne_of_gt h.2.1)
theorem pm_n7 {j : Nat} (h : pm_ok j) : ¬ nI j = 7 := fun z => absurd ((nI_eq (b := 7) (Nat.lt_trans h.1 (by decide)) (by decide)).mp z) h.2.2.1
theorem pm_n12 {j : Nat} (h : pm_ok j) : ¬ nI j = 12 := fun z => absurd ((nI_eq (b := 12) (Nat.lt_trans h.1 (by decide)) (by decide)).mp z) h.2.2.2
/-- the store behind a put at o -/
def pm_w (a : Nat → Int32) (o : Nat) (t x : Int32) : Nat → Int32 := upd (upd (upd (upd (upd a o (pm_b4 t)) (o + 1) (pm_b1 x)) (o + 2) (pm_b2 x)) (o + 3) (pm_b3 x)) (o + 4) (pm_b4 x)
/-- the parent read at o -/
def pm_get (a : Nat → Int32) (o : Nat) : Int32 := pm_j4 (a (o + 1)) (a (o + 2)) (a (o + 3)) (a (o + 4))
theorem pm_w0 (a : Nat → Int32) (o : Nat) (t x : Int32) : pm_w a o t x o = pm_b4 t := by
  unfold pm_w
  rw [pk_un (by omega), pk_un (by omega), pk_un (by omega), pk_un (by omega), pk_us]
theorem pm_w1 (a : Nat → Int32) (o : Nat) (t x : Int32) : pm_w a o t x (o + 1) = pm_b1 x := by
  unfold pm_w
  rw [pk_un (by omega), pk_un (by omega), pk_un (by omega), pk_us]
theorem pm_w2 (a : Nat → Int32) (o : Nat) (t x : Int32) : pm_w a o t x (o + 2) = pm_b2 x := by
  unfold pm_w
  rw [pk_un (by omega), pk_un (by omega), pk_us]
theorem pm_w3 (a : Nat → Int32) (o : Nat) (t x : Int32) : pm_w a o t x (o + 3) = pm_b3 x := by
  unfold pm_w
  rw [pk_un (by omega), pk_us]
theorem pm_w4 (a : Nat → Int32) (o : Nat) (t x : Int32) : pm_w a o t x (o + 4) = pm_b4 x := by
  unfold pm_w
  rw [pk_us]
theorem pm_wf (a : Nat → Int32) (o : Nat) (t x : Int32) {j : Nat} (h : j < o ∨ o + 5 ≤ j) : pm_w a o t x j = a j := by
  unfold pm_w
  rw [pk_un (by omega), pk_un (by omega), pk_un (by omega), pk_un (by omega), pk_un (by omega)]
theorem pm_gw (a : Nat → Int32) (o : Nat) (t x : Int32) : pm_get (pm_w a o t x) o = x := by
  unfold pm_get
  rw [pm_w1, pm_w2, pm_w3, pm_w4]
  exact pm_join x
theorem pm_gf (a : Nat → Int32) (o : Nat) (t x : Int32) {q : Nat} (h : q + 5 ≤ o ∨ o + 5 ≤ q) : pm_get (pm_w a o t x) q = pm_get a q := by
  unfold pm_get
  rw [pm_wf a o t x (j := q + 1) (by omega), pm_wf a o t x (j := q + 2) (by omega), pm_wf a o t x (j := q + 3) (by omega), pm_wf a o t x (j := q + 4) (by omega)]
/-! the component's walks at a page that has an entry, for any post -/
theorem pm_putX {post : Int32 → SX → Prop} {a : SX} {j : Nat} {t x : Int32} (h : pm_ok j) (ht : ¬ t < 1) (ht' : t ≤ 5) (hp : post 0 (pm_w a (pm_of j) t x)) : wpX_put post a (nI j) t x := by
  have hr := pm_rng j h.1 h.2.1 h.2.2.1 h.2.2.2
  have ho := pm_off j h.1 h.2.1 h.2.2.1 h.2.2.2
  refine br_f (pm_c2 h) (br_t (pm_c16 h) (br_f (pm_n2 h) (br_f (pm_n7 h) (br_f (pm_n12 h) (br_f ht (br_t ht' ⟨by decide, fun x4 e4 => ⟨by decide, nm_r (e' := nI (pm_of j)) (by rw [e4]; exact ho) ?_⟩⟩))))))
  clear ho
  generalize pm_of j = o at hr hp ⊢
  have e1 : nI o + 1 = nI (o + 1) := nI_add o 1
  have e2 : nI o + 2 = nI (o + 2) := nI_add o 2
  have e3 : nI o + 3 = nI (o + 3) := nI_add o 3
  have e4 : nI o + 4 = nI (o + 4) := nI_add o 4
  rw [e1, e2, e3, e4, nI_clamp (n := o) (by omega), nI_clamp (n := o + 1) (by omega), nI_clamp (n := o + 2) (by omega), nI_clamp (n := o + 3) (by omega), nI_clamp (n := o + 4) (by omega)]
  exact ⟨vp_in_nI (by omega) (by omega), nm_e ⟨vp_in_nI (by omega) (by omega), nm_e ⟨vp_in_nI (by omega) (by omega), nm_e ⟨vp_in_nI (by omega) (by omega), nm_e ⟨vp_in_nI (by omega) (by omega), nm_e hp⟩⟩⟩⟩⟩
theorem pm_parentX {post : Int32 → Prop} {a : SX} {j : Nat} (h : pm_ok j) (hp : post (pm_get a (pm_of j))) : wpX_parentOf post a (nI j) := by
  have hr := pm_rng j h.1 h.2.1 h.2.2.1 h.2.2.2
  have ho := pm_off j h.1 h.2.1 h.2.2.1 h.2.2.2
  refine br_f (pm_c2 h) (br_t (pm_c16 h) (br_f (pm_n2 h) (br_f (pm_n7 h) (br_f (pm_n12 h) ⟨by decide, fun x4 e4 => ⟨by decide, nm_r (e' := nI (pm_of j)) (by rw [e4]; exact ho) ?_⟩⟩))))
  clear ho
  generalize pm_of j = o at hr hp ⊢
  have e1 : nI o + 1 = nI (o + 1) := nI_add o 1
  have e2 : nI o + 2 = nI (o + 2) := nI_add o 2
  have e3 : nI o + 3 = nI (o + 3) := nI_add o 3
  have e4 : nI o + 4 = nI (o + 4) := nI_add o 4
  rw [e1, e2, e3, e4, nI_clamp (n := o + 1) (by omega), nI_clamp (n := o + 2) (by omega), nI_clamp (n := o + 3) (by omega), nI_clamp (n := o + 4) (by omega)]
  exact ⟨vp_in_nI (by omega) (by omega), vp_in_nI (by omega) (by omega), vp_in_nI (by omega) (by omega), vp_in_nI (by omega) (by omega), hp⟩
theorem pm_typeX {post : Int32 → Prop} {a : SX} {j : Nat} (h : pm_ok j) (hp : post (a (pm_of j) &&& 255)) : wpX_typeOf post a (nI j) := by
  have hr := pm_rng j h.1 h.2.1 h.2.2.1 h.2.2.2
  have ho := pm_off j h.1 h.2.1 h.2.2.1 h.2.2.2
  refine br_f (pm_c2 h) (br_t (pm_c16 h) (br_f (pm_n2 h) (br_f (pm_n7 h) (br_f (pm_n12 h) ⟨by decide, fun x4 e4 => ⟨by decide, nm_r (e' := nI (pm_of j)) (by rw [e4]; exact ho) ?_⟩⟩))))
  clear ho
  generalize pm_of j = o at hr hp ⊢
  rw [nI_clamp (n := o) (by omega)]
  exact ⟨vp_in_nI (by omega) (by omega), hp⟩
end
section
/-! the relation and what is owed -/
/-- page by page: the entry's bytes are the type and the parent; the three map pages hold nothing in the reference -/
def i_Rel (_ : Nat) (u : SX) (v : SY) : Prop := (∀ j, pm_ok j → u (pm_of j) &&& 255 = v.1 j ∧ pm_get u (pm_of j) = v.2 j) ∧ (∀ j, (j = 2 ∨ j = 7 ∨ j = 12) → v.1 j = 0 ∧ v.2 j = 0)
theorem i_up {k : Nat} {u : SX} {v : SY} (h : i_Rel k u v) : i_Rel (k + 4) u v := h
theorem pm_00 : (0 : Int32) &&& 255 = 0 := by decide +kernel
theorem i_vc0 : wpX_init (fun u => wpY_init (fun v => i_Rel 0 u v)) := And.intro (fun _ _ => ⟨pm_00, pm_j40⟩) (fun _ _ => ⟨rfl, rfl⟩)
theorem i_vc_mapPageFor {k : Nat} {u : SX} {v : SY} (I : i_Rel k u v) (hk : k + 4 ≤ 2048) (v1 : Int32) : wpX_mapPageFor (fun r => wpY_mapPageFor (fun r' => r' = r ∧ i_Rel (k + 4) u v) v v1) u v1 := by
  obtain ⟨ty, pa⟩ := v
  by_cases h : 2 ≤ v1
  · exact br_t h ⟨by decide, br_t h ⟨by decide, pm_mp v1, i_up I⟩⟩
  · exact br_f h (br_f h ⟨rfl, i_up I⟩)
theorem pm_keep {k k' : Nat} {u : SX} {ty pa : Nat → Int32} {j : Nat} {t x : Int32} (hj : pm_ok j) (I : i_Rel k u (ty, pa)) (ht : ¬ t < 1) (ht' : t ≤ 5) : i_Rel k' (pm_w u (pm_of j) t x) (upd ty j (vp_nar .short t.toInt16.toInt32), upd pa j x) := by
  refine And.intro (fun i hi => ?_) (fun i hi => ?_)
  · show pm_w u (pm_of j) t x (pm_of i) &&& 255 = upd ty j (vp_nar .short t.toInt16.toInt32) i ∧ pm_get (pm_w u (pm_of j) t x) (pm_of i) = upd pa j x i
    by_cases e : i = j
    · subst e
      rw [pk_us, pk_us, pm_w0, pm_gw]
      exact ⟨pm_ty ht ht', rfl⟩
    · have d := pm_dis hi hj e
      rw [pk_un e, pk_un e, pm_wf u (pm_of j) t x (j := pm_of i) (by omega), pm_gf u (pm_of j) t x (q := pm_of i) d]
      exact I.1 i hi
  · show upd ty j (vp_nar .short t.toInt16.toInt32) i = 0 ∧ upd pa j x i = 0
    have e : i ≠ j := by
      obtain ⟨b1, b2, b3, b4⟩ := hj
      omega
    rw [pk_un e, pk_un e]
    exact I.2 i hi
theorem i_vc_put {k : Nat} {u : SX} {v : SY} (I : i_Rel k u v) (hk : k + 4 ≤ 2048) (v1 : Int32) (v2 : Int32) (v3 : Int32) : wpX_put (fun r u' => wpY_put (fun r' v' => r' = r ∧ i_Rel (k + 4) u' v') v v1 v2 v3) u v1 v2 v3 := by
  obtain ⟨ty, pa⟩ := v
  by_cases h0 : v1 < 2
  · exact br_t h0 (br_t h0 ⟨rfl, i_up I⟩)
  by_cases h1 : v1 ≤ 16
  · by_cases h2 : v1 = 2
    · exact br_f h0 (br_t h1 (br_t h2 (br_f h0 (br_t h1 (br_t h2 ⟨rfl, i_up I⟩)))))
    by_cases h7 : v1 = 7
    · exact br_f h0 (br_t h1 (br_f h2 (br_t h7 (br_f h0 (br_t h1 (br_f h2 (br_t h7 ⟨rfl, i_up I⟩)))))))
    by_cases h12 : v1 = 12
    · exact br_f h0 (br_t h1 (br_f h2 (br_f h7 (br_t h12 (br_f h0 (br_t h1 (br_f h2 (br_f h7 (br_t h12 ⟨rfl, i_up I⟩)))))))))
    by_cases ht : v2 < 1
    · exact br_f h0 (br_t h1 (br_f h2 (br_f h7 (br_f h12 (br_t ht (br_f h0 (br_t h1 (br_f h2 (br_f h7 (br_f h12 (br_t ht ⟨rfl, i_up I⟩)))))))))))
    by_cases ht' : v2 ≤ 5
    · obtain ⟨j, hj2, hj16, rfl⟩ := pm_pg h0 h1
      have hok : pm_ok j := pm_okP hj2 hj16 h2 h7 h12
      have hin : vp_in (nI j) 17 := vp_in_nI (by omega) (by omega)
      refine pm_putX hok ht ht' (br_f h0 (br_t h1 (br_f h2 (br_f h7 (br_f h12 (br_f ht (br_t ht' ⟨hin, nm_e ⟨hin, nm_e ⟨rfl, ?_⟩⟩⟩)))))))
      rw [nI_clamp (n := j) (by omega)]
      exact pm_keep hok I ht ht'
    · exact br_f h0 (br_t h1 (br_f h2 (br_f h7 (br_f h12 (br_f ht (br_f ht' (br_f h0 (br_t h1 (br_f h2 (br_f h7 (br_f h12 (br_f ht (br_f ht' ⟨rfl, i_up I⟩)))))))))))))
  · exact br_f h0 (br_f h1 (br_f h0 (br_f h1 ⟨rfl, i_up I⟩)))
/-- at a map page the reference reads zeros -/
theorem pm_base {k : Nat} {u : SX} {ty pa : Nat → Int32} (I : i_Rel k u (ty, pa)) {p : Int32} (hp : p = 2 ∨ p = 7 ∨ p = 12) : vp_in p 17 ∧ ty p.toNatClampNeg = 0 ∧ pa p.toNatClampNeg = 0 := by
  have e2 : (2 : Int32).toNatClampNeg = 2 := by decide
  have e7 : (7 : Int32).toNatClampNeg = 7 := by decide
  have e12 : (12 : Int32).toNatClampNeg = 12 := by decide
  rcases hp with rfl | rfl | rfl
  · rw [e2]; exact ⟨vp_in_iff.mpr (by decide), I.2 2 (Or.inl rfl)⟩
  · rw [e7]; exact ⟨vp_in_iff.mpr (by decide), I.2 7 (Or.inr (Or.inl rfl))⟩
  · rw [e12]; exact ⟨vp_in_iff.mpr (by decide), I.2 12 (Or.inr (Or.inr rfl))⟩
theorem i_vc_parentOf {k : Nat} {u : SX} {v : SY} (I : i_Rel k u v) (hk : k + 4 ≤ 2048) (v1 : Int32) : wpX_parentOf (fun r => wpY_parentOf (fun r' => r' = r ∧ i_Rel (k + 4) u v) v v1) u v1 := by
  obtain ⟨ty, pa⟩ := v
  by_cases h0 : v1 < 2
  · exact br_t h0 (br_t h0 ⟨rfl, i_up I⟩)
  by_cases h1 : v1 ≤ 16
  · by_cases h2 : v1 = 2
    · have b := pm_base I (Or.inl h2)
      exact br_f h0 (br_t h1 (br_t h2 (br_f h0 (br_t h1 ⟨b.1, b.2.2, i_up I⟩))))
    by_cases h7 : v1 = 7
    · have b := pm_base I (Or.inr (Or.inl h7))
      exact br_f h0 (br_t h1 (br_f h2 (br_t h7 (br_f h0 (br_t h1 ⟨b.1, b.2.2, i_up I⟩)))))
    by_cases h12 : v1 = 12
    · have b := pm_base I (Or.inr (Or.inr h12))
      exact br_f h0 (br_t h1 (br_f h2 (br_f h7 (br_t h12 (br_f h0 (br_t h1 ⟨b.1, b.2.2, i_up I⟩))))))
    obtain ⟨j, hj2, hj16, rfl⟩ := pm_pg h0 h1
    have hok : pm_ok j := pm_okP hj2 hj16 h2 h7 h12
    refine pm_parentX hok (br_f h0 (br_t h1 ⟨vp_in_nI (by omega) (by omega), ?_, i_up I⟩))
    rw [nI_clamp (n := j) (by omega)]
    exact (I.1 j hok).2.symm
  · exact br_f h0 (br_f h1 (br_f h0 (br_f h1 ⟨rfl, i_up I⟩)))
theorem i_vc_typeOf {k : Nat} {u : SX} {v : SY} (I : i_Rel k u v) (hk : k + 4 ≤ 2048) (v1 : Int32) : wpX_typeOf (fun r => wpY_typeOf (fun r' => r' = r ∧ i_Rel (k + 4) u v) v v1) u v1 := by
  obtain ⟨ty, pa⟩ := v
  by_cases h0 : v1 < 2
  · exact br_t h0 (br_t h0 ⟨rfl, i_up I⟩)
  by_cases h1 : v1 ≤ 16
  · by_cases h2 : v1 = 2
    · have b := pm_base I (Or.inl h2)
      exact br_f h0 (br_t h1 (br_t h2 (br_f h0 (br_t h1 ⟨b.1, b.2.1, i_up I⟩))))
    by_cases h7 : v1 = 7
    · have b := pm_base I (Or.inr (Or.inl h7))
      exact br_f h0 (br_t h1 (br_f h2 (br_t h7 (br_f h0 (br_t h1 ⟨b.1, b.2.1, i_up I⟩)))))
    by_cases h12 : v1 = 12
    · have b := pm_base I (Or.inr (Or.inr h12))
      exact br_f h0 (br_t h1 (br_f h2 (br_f h7 (br_t h12 (br_f h0 (br_t h1 ⟨b.1, b.2.1, i_up I⟩))))))
    obtain ⟨j, hj2, hj16, rfl⟩ := pm_pg h0 h1
    have hok : pm_ok j := pm_okP hj2 hj16 h2 h7 h12
    refine pm_typeX hok (br_f h0 (br_t h1 ⟨vp_in_nI (by omega) (by omega), ?_, i_up I⟩))
    rw [nI_clamp (n := j) (by omega)]
    exact (I.1 j hok).1.symm
  · exact br_f h0 (br_f h1 (br_f h0 (br_f h1 ⟨rfl, i_up I⟩)))
end
