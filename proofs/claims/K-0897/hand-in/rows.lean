section
/-! starting text: rows taken from the rows to paste (stores, masks, chars, bits) -/
theorem pk_us {f : Nat → Int32} {k : Nat} {x : Int32} : upd f k x k = x := if_pos rfl
theorem pk_un {f : Nat → Int32} {k j : Nat} {x : Int32} (h : j ≠ k) : upd f k x j = f j := if_neg h
theorem pk_tn {n : Nat} (h : n < 2 ^ 32) : (nI n).toBitVec.toNat = n := Nat.mod_eq_of_lt h
theorem pk_and (x : Int32) {m : Int32} (k : Nat) (hm : m.toBitVec.toNat = 2 ^ k - 1) : x &&& m = nI (x.toBitVec.toNat % 2 ^ k) := by
  apply Int32.toBitVec_inj.mp
  apply BitVec.eq_of_toNat_eq
  rw [Int32.toBitVec_and, BitVec.toNat_and, hm, Nat.and_two_pow_sub_one_eq_mod]
  show _ = (BitVec.ofNat 32 _).toNat
  rw [BitVec.toNat_ofNat]
  exact (Nat.mod_eq_of_lt (Nat.lt_of_le_of_lt (Nat.mod_le _ _) x.toBitVec.isLt)).symm
theorem pk_andE (x : Int32) {m : Int32} (k : Nat) (hm : m.toBitVec.toNat = 2 ^ k - 1) : ∃ j : Nat, j < 2 ^ k ∧ x &&& m = nI j := ⟨_, Nat.mod_lt _ (Nat.two_pow_pos k), pk_and x k hm⟩
theorem pk_charN {q : Nat} (hq : q < 65536) : narrow .char (.int (nI q)) = .int (nI q) ∧ fits .char (.int (nI q)) = true := by
  constructor
  · have e : (nI q).toUInt32.toUInt16.toUInt32.toInt32 = nI q := by
      apply Int32.toBitVec_inj.mp
      apply BitVec.eq_of_toNat_eq
      show (nI q).toUInt32.toUInt16.toUInt32.toNat = q % 2 ^ 32
      rw [UInt16.toNat_toUInt32, UInt32.toNat_toUInt16, show (nI q).toUInt32.toNat = q % 2 ^ 32 from rfl]
      omega
    exact congrArg Value.int e
  · have a : (0 : Int32) ≤ nI q := nI_pos' (by omega)
    have b : nI q ≤ 65535 := nI_le (b := 65535) (by omega) (by decide)
    show (decide ((0 : Int32) ≤ nI q) && decide (nI q ≤ 65535)) = true
    rw [decide_eq_true a, decide_eq_true b]
    rfl
theorem pk_char (x : Int32) : (x.toUInt32 % 65536).toInt32 = nI (x.toBitVec.toNat % 65536) := by
  apply Int32.toBitVec_inj.mp
  apply BitVec.eq_of_toNat_eq
  rw [pk_tn (by omega)]
  show (x.toUInt32 % 65536).toNat = _
  rw [UInt32.toNat_mod]
  rfl
theorem pk_nc (x : Int32) : narrow .char (.int (x.toUInt32 % 65536).toInt32) = .int (x.toUInt32 % 65536).toInt32 := by
  rw [pk_char]
  exact (pk_charN (Nat.mod_lt _ (by decide))).1
theorem pk_fc (x : Int32) : fits .char (.int (x.toUInt32 % 65536).toInt32) = true := by
  rw [pk_char]
  exact (pk_charN (Nat.mod_lt _ (by decide))).2
def bt (x : Int32) (i : Nat) : Bool := x.toBitVec.getLsbD i
theorem b_ext {x y : Int32} (h : ∀ i, i < 32 → bt x i = bt y i) : x = y := Int32.toBitVec_inj.mp (BitVec.eq_of_getLsbD_eq (fun i hi => h i hi))
theorem b_or (x y : Int32) (i : Nat) : bt (x ||| y) i = (bt x i || bt y i) := by unfold bt; rw [Int32.toBitVec_or, BitVec.getLsbD_or]
theorem b_and (x y : Int32) (i : Nat) : bt (x &&& y) i = (bt x i && bt y i) := by unfold bt; rw [Int32.toBitVec_and, BitVec.getLsbD_and]
theorem em_w (v : Int32) : ∃ w : Nat, w < 65536 ∧ (v.toUInt32 % 65536).toInt32 = nI w ∧ v &&& 65535 = nI w := by
  have hr := lw_u16_r v
  have h0 : (0 : Int32).toInt = 0 := by decide
  obtain ⟨w, h1, h2⟩ := nI_of (x := lw_u16 v) (by rw [Int32.lt_iff_toInt_lt]; omega)
  have h3 : (v.toUInt32 % 65536).toInt32 = nI w := h2
  rw [h2, nI_toInt h1] at hr
  exact ⟨w, by omega, h3, by rw [← lg_i2c_mask, ← lg_i2c_nf, h3]⟩
end
section
/-! the plain laws: a cell of the tapes, the set of live variables as 16 bits -/
/-- a cell of the tape, a byte on X's side and a char on Y's: the same variable, a store on both sides or on neither -/
def ds_Op (p q : Int32) : Prop := p &&& 15 = q &&& 15 ∧ (0 ≤ p ↔ ¬ 16 ≤ q)
theorem ds_op0 : ds_Op 0 0 := by unfold ds_Op; decide +kernel
theorem ds_opL : ∀ j, j < 16 → ds_Op (vp_nar .byte (nI j).toInt8.toInt32) (vp_nar .char (((nI j).toUInt32 % 65536).toInt32)) := by
  unfold ds_Op
  simp only [vp_nar_byte, vp_nar_char]
  decide +kernel
theorem ds_opS : ∀ j, j < 16 → ds_Op (vp_nar .byte ((nI j ||| 128).toInt8.toInt32)) (vp_nar .char (((nI j + 16).toUInt32 % 65536).toInt32)) := by
  unfold ds_Op
  simp only [vp_nar_byte, vp_nar_char]
  decide +kernel
theorem ds_opU {tx ty : Nat → Int32} {k : Nat} {p q : Int32} (h : ∀ j, ds_Op (tx j) (ty j)) (hp : ds_Op p q) : ∀ j, ds_Op (upd tx k p j) (upd ty k q j) := by
  intro j
  by_cases e : j = k
  · rw [e, pk_us, pk_us]; exact hp
  · rw [pk_un e, pk_un e]; exact h j
/-- a mark's array stays one of 0 and 1 -/
theorem ds_01U {a : Nat → Int32} {k : Nat} {z : Int32} (h : ∀ j, a j = 0 ∨ a j = 1) (hz : z = 0 ∨ z = 1) : ∀ j, upd a k z j = 0 ∨ upd a k z j = 1 := by
  intro j
  by_cases e : j = k
  · rw [e, pk_us]; exact hz
  · rw [pk_un e]; exact h j
/-- storing what stands there already -/
theorem ds_same {a : Nat → Int32} {k : Nat} {z : Int32} (h : a k = z) : upd a k z = a := by
  funext j
  by_cases e : j = k
  · rw [e, pk_us, h]
  · rw [pk_un e]
theorem ds_8 : nI 8 = 8 := by decide +kernel
theorem ds_ch (x : Int32) : (x.toUInt32 % 65536).toInt32 = x &&& 65535 := by
  obtain ⟨w, _, a, b⟩ := em_w x
  rw [a, b]
theorem ds_bit (x : Int32) : ((1 : Int32) <<< ((x &&& 15) &&& 31)) &&& 65535 = (1 : Int32) <<< ((x &&& 15) &&& 31) := by
  obtain ⟨j, hj, e⟩ := pk_andE x (m := 15) 4 (by decide +kernel)
  rw [e]
  exact (by decide +kernel : ∀ j, j < 16 → ((1 : Int32) <<< (nI j &&& 31)) &&& 65535 = (1 : Int32) <<< (nI j &&& 31)) j hj
theorem ds_mor {l b m : Int32} (hl : l &&& m = l) (hb : b &&& m = b) : (l ||| b) &&& m = l ||| b := by
  apply b_ext
  intro i _
  have h1 : bt (l &&& m) i = bt l i := by rw [hl]
  have h2 : bt (b &&& m) i = bt b i := by rw [hb]
  rw [b_and] at h1 h2
  rw [b_and, b_or]
  revert h1 h2
  cases bt l i <;> cases bt b i <;> cases bt m i <;> decide
theorem ds_mand {l c m : Int32} (hl : l &&& m = l) : (l &&& c) &&& m = l &&& c := by
  apply b_ext
  intro i _
  have h1 : bt (l &&& m) i = bt l i := by rw [hl]
  rw [b_and] at h1
  rw [b_and, b_and]
  revert h1
  cases bt l i <;> cases bt c i <;> cases bt m i <;> decide
theorem ds_mand2 {l c m : Int32} (hl : l &&& m = l) : (l &&& ((c &&& m) &&& m)) &&& m = l &&& c := by
  apply b_ext
  intro i _
  have h1 : bt (l &&& m) i = bt l i := by rw [hl]
  rw [b_and] at h1
  rw [b_and, b_and, b_and, b_and, b_and]
  revert h1
  cases bt l i <;> cases bt c i <;> cases bt m i <;> decide
/-- X's chars against Y's ints: a variable joins the live ones -/
theorem ds_or {l b : Int32} (hl : l &&& 65535 = l) (hb : b &&& 65535 = b) : ((l ||| ((b.toUInt32 % 65536).toInt32)).toUInt32 % 65536).toInt32 = l ||| b := by
  rw [ds_ch, ds_ch, hb]
  exact ds_mor hl hb
/-- X's chars against Y's ints: a variable leaves the live ones -/
theorem ds_and {l b : Int32} (hl : l &&& 65535 = l) : ((l &&& ((((b ^^^ (-1)) &&& 65535).toUInt32 % 65536).toInt32)).toUInt32 % 65536).toInt32 = l &&& (b ^^^ (-1)) := by
  rw [ds_ch, ds_ch]
  exact ds_mand2 hl
theorem ds_nar {l : Int32} (hl : l &&& 65535 = l) : narrow .char (.int l) = .int l ∧ fits .char (.int l) = true := by
  rw [← hl, ← ds_ch l]
  exact ⟨pk_nc l, pk_fc l⟩
end
section
/-! the two sweeps in lockstep -/
theorem ds_x76 {post : Int32 → SX → Prop} {J : Int32 → Int32 → Int32 → (Nat → Int32) → (Nat → Int32) → Prop} {c x b F l : Int32} {t a : Nat → Int32} (hl : l &&& 65535 = l) (h : J c (x + (-1)) (l &&& (b ^^^ (-1))) t a) : wX_sweep_76 post J c x b F l t a := by
  unfold wX_sweep_76
  exact nm_r (ds_and hl) ⟨(ds_nar (ds_mand hl)).1, (ds_nar (ds_mand hl)).2, nm_e h⟩
theorem ds_x57_0 {post : Int32 → SX → Prop} {J : Int32 → Int32 → Int32 → (Nat → Int32) → (Nat → Int32) → Prop} {c x b F l : Int32} {t a : Nat → Int32} (hi : vp_in x 8) (hl : l &&& 65535 = l) (h : J c (x + (-1)) (l &&& (b ^^^ (-1))) t (upd a x.toNatClampNeg 0)) : wX_sweep_57 post J c x b 0 F l t a := by
  unfold wX_sweep_57
  exact ⟨hi, nm_r (e' := upd a x.toNatClampNeg 0) rfl (br_t rfl (ds_x76 hl h))⟩
theorem ds_x57_1 {post : Int32 → SX → Prop} {J : Int32 → Int32 → Int32 → (Nat → Int32) → (Nat → Int32) → Prop} {c x b F l : Int32} {t a : Nat → Int32} (hi : vp_in x 8) (hl : l &&& 65535 = l) (h : J (c + 1) (x + (-1)) (l &&& (b ^^^ (-1))) t (upd a x.toNatClampNeg 1)) : wX_sweep_57 post J c x b 1 F l t a := by
  unfold wX_sweep_57
  exact ⟨hi, nm_r (e' := upd a x.toNatClampNeg 1) rfl (br_f (by decide) (nm_e (ds_x76 hl h)))⟩
theorem ds_y85 {post : Int32 → SY → Prop} {J : Int32 → Int32 → Int32 → (Nat → Int32) → (Nat → Int32) → Prop} {l c x b F : Int32} {t a : Nat → Int32} (h : J (l &&& (b ^^^ (-1))) c (x + (-1)) t a) : wY_sweep_85 post J l c x b F t a := by
  unfold wY_sweep_85
  exact nm_e (nm_e h)
theorem ds_y72_0 {post : Int32 → SY → Prop} {J : Int32 → Int32 → Int32 → (Nat → Int32) → (Nat → Int32) → Prop} {l c x b F : Int32} {t a : Nat → Int32} (hi : vp_in x 8) (h : J (l &&& (b ^^^ (-1))) c (x + (-1)) t (upd a x.toNatClampNeg 0)) : wY_sweep_72 post J l c x b 0 x F t a := by
  unfold wY_sweep_72
  exact ⟨hi, nm_r (e' := upd a x.toNatClampNeg 0) rfl ⟨hi, br_t pk_us (ds_y85 h)⟩⟩
theorem ds_y72_1 {post : Int32 → SY → Prop} {J : Int32 → Int32 → Int32 → (Nat → Int32) → (Nat → Int32) → Prop} {l c x b F : Int32} {t a : Nat → Int32} (hi : vp_in x 8) (h : J (l &&& (b ^^^ (-1))) (c + 1) (x + (-1)) t (upd a x.toNatClampNeg 1)) : wY_sweep_72 post J l c x b 1 x F t a := by
  unfold wY_sweep_72
  exact ⟨hi, nm_r (e' := upd a x.toNatClampNeg 1) rfl ⟨hi, br_f (by rw [pk_us]; decide) (nm_e (ds_y85 h))⟩⟩
/-- from the same count, live variables and marks, with the same d cells left, both sweeps end with one count and the same marks; marks at d or beyond stay -/
theorem ds_loop (F : Int32) {tx ty : Nat → Int32} (ht : ∀ j, ds_Op (tx j) (ty j)) : ∀ d : Nat, d ≤ 8 → ∀ (c l : Int32) (a : Nat → Int32), l &&& 65535 = l → (∀ j, a j = 0 ∨ a j = 1) → ∃ (r l' : Int32) (a' : Nat → Int32), (∀ j, a' j = 0 ∨ a' j = 1) ∧ (∀ j, d ≤ j → a' j = a j) ∧ (∀ post : Int32 → SX → Prop, post r (F, l', tx, a') → wX_sweep_15 post F (d + 1) c (nI d - 1) l tx a) ∧ (∀ post : Int32 → SY → Prop, post r (F, ty, a') → wY_sweep_12 post F (d + 1) l c (nI d - 1) ty a) := by
  intro d
  induction d with
  | zero =>
    intro _ c l a _ ha
    have hn : nI 0 - 1 < 0 := by decide +kernel
    exact ⟨c, l, a, ha, fun _ _ => rfl, fun post h => br_t hn h, fun post h => br_t hn h⟩
  | succ d ih =>
    intro hd c l a hl ha
    rw [nI_pred]
    have hn : ¬ nI d < 0 := nI_pos (by omega)
    have hi : vp_in (nI d) 8 := vp_in_nI (by omega) (by omega)
    have hc : (nI d).toNatClampNeg = d := nI_clamp (by omega)
    have hm : nI d + (-1) = nI d - 1 := (Int32.sub_eq_add_neg ..).symm
    have hp := ht (nI d).toNatClampNeg
    have hb := ds_bit (ty (nI d).toNatClampNeg)
    have keep : ∀ {a' : Nat → Int32} {z : Int32}, (∀ j, d ≤ j → a' j = upd a (nI d).toNatClampNeg z j) → ∀ j, d + 1 ≤ j → a' j = a j := by
      intro a' z h j hj
      rw [h j (by omega), pk_un (by omega)]
    by_cases h16 : 16 ≤ ty (nI d).toNatClampNeg
    · have hx : ¬ 0 ≤ tx (nI d).toNatClampNeg := fun h => hp.2.mp h h16
      by_cases hz : l &&& ((1 : Int32) <<< ((ty (nI d).toNatClampNeg &&& 15) &&& 31)) = 0
      · obtain ⟨r, l', a', h1, h2, hX, hY⟩ := ih (by omega) (c + 1) (l &&& (((1 : Int32) <<< ((ty (nI d).toNatClampNeg &&& 15) &&& 31)) ^^^ (-1))) (upd a (nI d).toNatClampNeg 1) (ds_mand hl) (ds_01U ha (.inr rfl))
        rw [← hm] at hX hY
        exact ⟨r, l', a', h1, keep h2,
          fun post h => br_f hn ⟨hi, nm_e (nm_r hp.1 (nm_e (br_f hx (br_t hz (ds_x57_1 hi hl (hX post h))))))⟩,
          fun post h => br_f hn ⟨hi, nm_e ⟨hi, br_t h16 (br_t hz (ds_y72_1 hi (hY post h)))⟩⟩⟩
      · obtain ⟨r, l', a', h1, h2, hX, hY⟩ := ih (by omega) c (l &&& (((1 : Int32) <<< ((ty (nI d).toNatClampNeg &&& 15) &&& 31)) ^^^ (-1))) (upd a (nI d).toNatClampNeg 0) (ds_mand hl) (ds_01U ha (.inl rfl))
        rw [← hm] at hX hY
        exact ⟨r, l', a', h1, keep h2,
          fun post h => br_f hn ⟨hi, nm_e (nm_r hp.1 (nm_e (br_f hx (br_f hz (ds_x57_0 hi hl (hX post h))))))⟩,
          fun post h => br_f hn ⟨hi, nm_e ⟨hi, br_t h16 (br_f hz (ds_y72_0 hi (hY post h)))⟩⟩⟩
    · have hx : 0 ≤ tx (nI d).toNatClampNeg := hp.2.mpr h16
      obtain ⟨r, l', a', h1, h2, hX, hY⟩ := ih (by omega) c (l ||| ((1 : Int32) <<< ((ty (nI d).toNatClampNeg &&& 15) &&& 31))) (upd a (nI d).toNatClampNeg 0) (ds_mor hl hb) (ds_01U ha (.inl rfl))
      rw [← hm] at hX hY
      have hq := ds_nar (ds_mor hl hb)
      exact ⟨r, l', a', h1, keep h2,
        fun post h => br_f hn ⟨hi, nm_e (nm_r hp.1 (nm_e (br_t hx ⟨hi, nm_r (e' := upd a (nI d).toNatClampNeg 0) rfl (nm_r (ds_or hl hb) ⟨hq.1, hq.2, nm_e (hX post h)⟩)⟩)))⟩,
        fun post h => br_f hn ⟨hi, nm_e ⟨hi, br_f h16 ⟨hi, nm_r (e' := upd a (nI d).toNatClampNeg 0) rfl (nm_e (nm_e (hY post h)))⟩⟩⟩⟩
end
section
/-! what is owed -/
/-- the same length m of at most 8, cells of the tapes that say the same, the same marks: each 0 or 1, and none at m or beyond; X's field of live variables is free -/
def i_Rel (_ : Nat) (u : SX) (v : SY) : Prop := ∃ (m : Nat) (l : Int32) (tx ty a : Nat → Int32), m ≤ 8 ∧ (∀ j, ds_Op (tx j) (ty j)) ∧ (∀ j, a j = 0 ∨ a j = 1) ∧ (∀ j, m ≤ j → a j = 0) ∧ u = (nI m, l, tx, a) ∧ v = (nI m, ty, a)
theorem i_up {k : Nat} {u : SX} {v : SY} (h : i_Rel k u v) : i_Rel (k + 2) u v := h
theorem i_vc0 : wpX_init (fun u => wpY_init (fun v => i_Rel 0 u v)) :=
  ⟨0, 65535, fun _ => 0, fun _ => 0, fun _ => 0, by decide, fun _ => ds_op0, fun _ => .inl rfl, fun _ _ => rfl, rfl, rfl⟩
/-- one cell more -/
theorem ds_put {k m : Nat} {l : Int32} {tx ty a : Nat → Int32} {p q : Int32} (hm : m < 8) (ht : ∀ j, ds_Op (tx j) (ty j)) (h01 : ∀ j, a j = 0 ∨ a j = 1) (h0 : ∀ j, m ≤ j → a j = 0) (hp : ds_Op p q) : i_Rel k (nI m + 1, l, upd tx (nI m).toNatClampNeg p, upd a (nI m).toNatClampNeg (vp_nar .boolean 0)) (nI m + 1, upd ty (nI m).toNatClampNeg q, a) := by
  have hs : upd a (nI m).toNatClampNeg (vp_nar .boolean 0) = a := ds_same (by rw [nI_clamp (by omega)]; exact h0 m (Nat.le_refl m))
  refine ⟨m + 1, l, upd tx (nI m).toNatClampNeg p, upd ty (nI m).toNatClampNeg q, a, hm, ds_opU ht hp, h01, fun j hj => h0 j (by omega), ?_, ?_⟩
  · rw [hs, nI_1]
  · rw [nI_1]
theorem i_vc_load {k : Nat} {u : SX} {v : SY} (I : i_Rel k u v) (hk : k + 2 ≤ 1024) (v1 : Int32) : wpX_load (fun r u' => wpY_load (fun r' v' => r' = r ∧ i_Rel (k + 2) u' v') v v1) u v1 := by
  have I' : i_Rel (k + 2) u v := I
  obtain ⟨m, l, tx, ty, a, hm, ht, h01, h0, rfl, rfl⟩ := I
  by_cases hn : v1 < 0
  · exact br_t hn (br_t hn ⟨rfl, I'⟩)
  · by_cases h15 : v1 ≤ 15
    · by_cases h8 : nI m < 8
      · obtain ⟨j, hj, rfl⟩ := nI_of2 (M := 15) (n := 15) (by decide +kernel) hn h15
        have hm8 : m < 8 := by rw [← ds_8, nI_ltI (by omega) (by omega)] at h8; exact h8
        have hi : vp_in (nI m) 8 := vp_in_nI hm8 (by omega)
        exact br_f hn (br_t h15 (br_t h8 ⟨hi, nm_e ⟨hi, nm_e (nm_e (br_f hn (br_t h15 (br_t h8 (nm_e ⟨hi, nm_e ⟨rfl, ds_put hm8 ht h01 h0 (ds_opL j (by omega))⟩⟩)))))⟩⟩))
      · exact br_f hn (br_t h15 (br_f h8 (br_f hn (br_t h15 (br_f h8 ⟨rfl, I'⟩)))))
    · exact br_f hn (br_f h15 (br_f hn (br_f h15 ⟨rfl, I'⟩)))
theorem i_vc_store {k : Nat} {u : SX} {v : SY} (I : i_Rel k u v) (hk : k + 2 ≤ 1024) (v1 : Int32) : wpX_store (fun r u' => wpY_store (fun r' v' => r' = r ∧ i_Rel (k + 2) u' v') v v1) u v1 := by
  have I' : i_Rel (k + 2) u v := I
  obtain ⟨m, l, tx, ty, a, hm, ht, h01, h0, rfl, rfl⟩ := I
  by_cases hn : v1 < 0
  · exact br_t hn (br_t hn ⟨rfl, I'⟩)
  · by_cases h15 : v1 ≤ 15
    · by_cases h8 : nI m < 8
      · obtain ⟨j, hj, rfl⟩ := nI_of2 (M := 15) (n := 15) (by decide +kernel) hn h15
        have hm8 : m < 8 := by rw [← ds_8, nI_ltI (by omega) (by omega)] at h8; exact h8
        have hi : vp_in (nI m) 8 := vp_in_nI hm8 (by omega)
        exact br_f hn (br_t h15 (br_t h8 ⟨hi, nm_e ⟨hi, nm_e (nm_e (br_f hn (br_t h15 (br_t h8 (nm_e ⟨hi, nm_e ⟨rfl, ds_put hm8 ht h01 h0 (ds_opS j (by omega))⟩⟩)))))⟩⟩))
      · exact br_f hn (br_t h15 (br_f h8 (br_f hn (br_t h15 (br_f h8 ⟨rfl, I'⟩)))))
    · exact br_f hn (br_f h15 (br_f hn (br_f h15 ⟨rfl, I'⟩)))
theorem i_vc_sweep {k : Nat} {u : SX} {v : SY} (I : i_Rel k u v) (hk : k + 2 ≤ 1024) : wpX_sweep (fun r u' => wpY_sweep (fun r' v' => r' = r ∧ i_Rel (k + 2) u' v') v) u := by
  obtain ⟨m, l, tx, ty, a, hm, ht, h01, h0, rfl, rfl⟩ := I
  obtain ⟨r, l', a', h1, h2, hX, hY⟩ := ds_loop (nI m) ht m hm 0 65535 a (by decide +kernel) h01
  have J : i_Rel (k + 2) (nI m, l', tx, a') (nI m, ty, a') := ⟨m, l', tx, ty, a', hm, ht, h1, fun j hj => (h2 j hj).trans (h0 j hj), rfl, rfl⟩
  exact nm_e ⟨m + 1, hX _ (nm_e ⟨m + 1, hY _ ⟨rfl, J⟩⟩)⟩
theorem i_vc_isDead {k : Nat} {u : SX} {v : SY} (I : i_Rel k u v) (hk : k + 2 ≤ 1024) (v1 : Int32) : wpX_isDead (fun r => wpY_isDead (fun r' => r' = r ∧ i_Rel (k + 2) u v) v v1) u v1 := by
  have I' : i_Rel (k + 2) u v := I
  obtain ⟨m, l, tx, ty, a, hm, ht, h01, h0, rfl, rfl⟩ := I
  by_cases hn : v1 < 0
  · exact br_t hn (br_t hn ⟨rfl, I'⟩)
  · by_cases hL : v1 < nI m
    · have hG : ¬ nI m ≤ v1 := Int32.not_le.mpr hL
      have hi : vp_in v1 8 := by
        obtain ⟨j, hj, rfl⟩ := nI_of hn
        rw [nI_ltI hj (by omega)] at hL
        exact vp_in_nI (by omega) (by omega)
      rcases h01 v1.toNatClampNeg with z | z
      · exact br_f hn (br_t hL ⟨hi, by rw [z]; rfl, br_f hn (br_f hG ⟨hi, br_t z ⟨z.symm, I'⟩⟩)⟩)
      · have z' : ¬ a v1.toNatClampNeg = 0 := by rw [z]; decide
        exact br_f hn (br_t hL ⟨hi, by rw [z]; rfl, br_f hn (br_f hG ⟨hi, br_f z' ⟨z.symm, I'⟩⟩)⟩)
    · have hG : nI m ≤ v1 := Int32.not_lt.mp hL
      exact br_f hn (br_f hL (br_f hn (br_t hG ⟨rfl, I'⟩)))
end
