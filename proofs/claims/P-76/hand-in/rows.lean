section
theorem pk_us {f : Nat → Int32} {k : Nat} {x : Int32} : upd f k x k = x := if_pos rfl
theorem pk_un {f : Nat → Int32} {k j : Nat} {x : Int32} (h : j ≠ k) : upd f k x j = f j := if_neg h
theorem pk_uLs {f : Nat → Int64} {k : Nat} {x : Int64} : vp_updL f k x k = x := if_pos rfl
theorem pk_uLn {f : Nat → Int64} {k j : Nat} {x : Int64} (h : j ≠ k) : vp_updL f k x j = f j := if_neg h
theorem pk_ix (x : Int32) {n : Nat} (hn : n < 2 ^ 31) : x < 0 ∨ nI n ≤ x ∨ ∃ j : Nat, j < n ∧ x = nI j := by
  by_cases h : x < 0
  · exact Or.inl h
  · obtain ⟨j, hj, rfl⟩ := nI_of h
    by_cases h2 : j < n
    · exact Or.inr (Or.inr ⟨j, h2, rfl⟩)
    · exact Or.inr (Or.inl (nI_le (by omega) hj))
theorem pk_tn {n : Nat} (h : n < 2 ^ 32) : (nI n).toBitVec.toNat = n := Nat.mod_eq_of_lt h
theorem pk_and (x : Int32) {m : Int32} (k : Nat) (hm : m.toBitVec.toNat = 2 ^ k - 1) : x &&& m = nI (x.toBitVec.toNat % 2 ^ k) := by
  apply Int32.toBitVec_inj.mp
  apply BitVec.eq_of_toNat_eq
  rw [Int32.toBitVec_and, BitVec.toNat_and, hm, Nat.and_two_pow_sub_one_eq_mod]
  show _ = (BitVec.ofNat 32 _).toNat
  rw [BitVec.toNat_ofNat]
  exact (Nat.mod_eq_of_lt (Nat.lt_of_le_of_lt (Nat.mod_le _ _) x.toBitVec.isLt)).symm
theorem pk_andN {n : Nat} (h : n < 2 ^ 32) {m : Int32} (k : Nat) (hm : m.toBitVec.toNat = 2 ^ k - 1) : nI n &&& m = nI (n % 2 ^ k) := by
  rw [pk_and _ k hm, pk_tn h]
theorem pk_andE (x : Int32) {m : Int32} (k : Nat) (hm : m.toBitVec.toNat = 2 ^ k - 1) : ∃ j : Nat, j < 2 ^ k ∧ x &&& m = nI j := ⟨_, Nat.mod_lt _ (Nat.two_pow_pos k), pk_and x k hm⟩
theorem pk_mul (a b : Nat) : nI a * nI b = nI (a * b) := (Int32.ofNat_mul a b).symm
theorem pk_shl (a s : Int32) (k : Nat) (hs : (s.toBitVec.smod 32).toNat = k) : (a <<< s).toBitVec.toNat = a.toBitVec.toNat * 2 ^ k % 2 ^ 32 := by
  show (a.toBitVec <<< (s.toBitVec.smod 32).toNat).toNat = _
  rw [hs, BitVec.toNat_shiftLeft, Nat.shiftLeft_eq]
theorem pk_shlN {n : Nat} (s : Int32) (k : Nat) (hs : (s.toBitVec.smod 32).toNat = k) (h : n * 2 ^ k < 2 ^ 32) : nI n <<< s = nI (n * 2 ^ k) := by
  apply Int32.toBitVec_inj.mp
  apply BitVec.eq_of_toNat_eq
  have hn : n < 2 ^ 32 := Nat.lt_of_le_of_lt (Nat.le_mul_of_pos_right n (Nat.two_pow_pos k)) h
  rw [pk_shl _ _ k hs, pk_tn hn, pk_tn h, Nat.mod_eq_of_lt h]
theorem pk_charN {q : Nat} (hq : q < 65536) : narrow .char (.int (nI q)) = .int (nI q) ∧ fits .char (.int (nI q)) = true := by
  constructor
  · have e : (nI q).toUInt32.toUInt16.toUInt32.toInt32 = nI q := by
      apply Int32.toBitVec_inj.mp
      apply BitVec.eq_of_toNat_eq
      show (nI q).toUInt32.toUInt16.toUInt32.toNat = q % 2 ^ 32
      rw [UInt16.toNat_toUInt32, UInt32.toNat_toUInt16, show (nI q).toUInt32.toNat = q % 2 ^ 32 from rfl]
      omega
    exact congrArg Value.int e
  · have a : (0 : Int32) ≤ nI q := nI_pos' (by omega)
    have b : nI q ≤ 65535 := nI_le (b := 65535) (by omega) (by decide)
    show (decide ((0 : Int32) ≤ nI q) && decide (nI q ≤ 65535)) = true
    rw [decide_eq_true a, decide_eq_true b]
    rfl
theorem pk_char (x : Int32) : (x.toUInt32 % 65536).toInt32 = nI (x.toBitVec.toNat % 65536) := by
  apply Int32.toBitVec_inj.mp
  apply BitVec.eq_of_toNat_eq
  rw [pk_tn (by omega)]
  show (x.toUInt32 % 65536).toNat = _
  rw [UInt32.toNat_mod]
  rfl
theorem pk_nc (x : Int32) : narrow .char (.int (x.toUInt32 % 65536).toInt32) = .int (x.toUInt32 % 65536).toInt32 := by
  rw [pk_char]
  exact (pk_charN (Nat.mod_lt _ (by decide))).1
theorem pk_vb (z : Int32) : vp_nar .byte z.toInt8.toInt32 = z.toInt8.toInt32 := by rw [vp_nar_byte]; simp
theorem pk_vs (z : Int32) : vp_nar .short z.toInt16.toInt32 = z.toInt16.toInt32 := by rw [vp_nar_short]; simp
theorem pk_vc (z : Int32) : vp_nar .char (z.toUInt32 % 65536).toInt32 = (z.toUInt32 % 65536).toInt32 := Value.int.inj (pk_nc z)
def uN (x : Int64) : Nat := x.toUInt64.toNat
theorem uN_lt (x : Int64) : uN x < 18446744073709551616 := x.toUInt64.toNat_lt
theorem uN_inj {x y : Int64} (h : uN x = uN y) : x = y := congrArg UInt64.toInt64 (UInt64.toNat_inj.mp h)
theorem uN_shr (x : Int64) (s : UInt64) : uN (x.toUInt64 >>> s).toInt64 = uN x / 2 ^ (s.toNat % 64) := by
  show (x.toUInt64 >>> s).toNat = _
  rw [UInt64.toNat_shiftRight, Nat.shiftRight_eq_div_pow]
  rfl
theorem uN_s32 (x : Int64) : uN (x.toUInt64 >>> ((32 : Int32).toInt64.toUInt64 &&& Int64.toUInt64 63)).toInt64 = uN x / 4294967296 := by
  have h : ((32 : Int32).toInt64.toUInt64 &&& Int64.toUInt64 63).toNat % 64 = 32 := by decide
  rw [uN_shr, h]
end
section
/-! pure rows of ClassResolve: the codes, the answer, its range, the memo's coding, the halves of a long, a row of the frozen table -/
def cr_code (k : Int32) : Int32 := if k = 90 then 8 else if k = 67 then 9 else if k = 70 then 10 else if k = 68 then 11 else if k = 66 then 12 else if k = 83 then 13 else if k = 73 then 14 else if k = 74 then 15 else -1
def cr_prim : Nat → Int32 := upd (upd (upd (upd (upd (upd (upd (upd (fun _ => 0) 0 (vp_nar .char 90)) 1 (vp_nar .char 67)) 2 (vp_nar .char 70)) 3 (vp_nar .char 68)) 4 (vp_nar .char 66)) 5 (vp_nar .char 83)) 6 (vp_nar .char 73)) 7 (vp_nar .char 74)
theorem cr_prim_0 : cr_prim 0 = 90 := by decide +kernel
theorem cr_prim_1 : cr_prim 1 = 67 := by decide +kernel
theorem cr_prim_2 : cr_prim 2 = 70 := by decide +kernel
theorem cr_prim_3 : cr_prim 3 = 68 := by decide +kernel
theorem cr_prim_4 : cr_prim 4 = 66 := by decide +kernel
theorem cr_prim_5 : cr_prim 5 = 83 := by decide +kernel
theorem cr_prim_6 : cr_prim 6 = 73 := by decide +kernel
theorem cr_prim_7 : cr_prim 7 = 74 := by decide +kernel
theorem cr_prim_code : ∀ j, j < 8 → cr_code (cr_prim j) = 8 + nI j := by decide +kernel
/-- a kind with a code is one of the eight letters -/
theorem cr_code_cases {k : Int32} (h : 0 ≤ cr_code k) : k = 90 ∨ k = 67 ∨ k = 70 ∨ k = 68 ∨ k = 66 ∨ k = 83 ∨ k = 73 ∨ k = 74 := by
  unfold cr_code at h
  by_cases h0 : k = 90
  · exact Or.inl h0
  by_cases h1 : k = 67
  · exact Or.inr (Or.inl h1)
  by_cases h2 : k = 70
  · exact Or.inr (Or.inr (Or.inl h2))
  by_cases h3 : k = 68
  · exact Or.inr (Or.inr (Or.inr (Or.inl h3)))
  by_cases h4 : k = 66
  · exact Or.inr (Or.inr (Or.inr (Or.inr (Or.inl h4))))
  by_cases h5 : k = 83
  · exact Or.inr (Or.inr (Or.inr (Or.inr (Or.inr (Or.inl h5)))))
  by_cases h6 : k = 73
  · exact Or.inr (Or.inr (Or.inr (Or.inr (Or.inr (Or.inr (Or.inl h6))))))
  by_cases h7 : k = 74
  · exact Or.inr (Or.inr (Or.inr (Or.inr (Or.inr (Or.inr (Or.inr h7))))))
  rw [if_neg h0, if_neg h1, if_neg h2, if_neg h3, if_neg h4, if_neg h5, if_neg h6, if_neg h7] at h
  exact absurd h (by decide)
theorem cr_code_small {k : Int32} (h : 0 ≤ cr_code k) : ∃ c : Nat, c < 16 ∧ cr_code k = nI c := by
  rcases cr_code_cases h with e | e | e | e | e | e | e | e <;> subst e
  · exact ⟨8, by decide, by decide +kernel⟩
  · exact ⟨9, by decide, by decide +kernel⟩
  · exact ⟨10, by decide, by decide +kernel⟩
  · exact ⟨11, by decide, by decide +kernel⟩
  · exact ⟨12, by decide, by decide +kernel⟩
  · exact ⟨13, by decide, by decide +kernel⟩
  · exact ⟨14, by decide, by decide +kernel⟩
  · exact ⟨15, by decide, by decide +kernel⟩
/-- a kind that addRef takes is stored as it is -/
theorem cr_kind76 : vp_nar .char (((76 : Int32).toUInt32 % 65536).toInt32) = 76 := by decide +kernel
theorem cr_kind {k : Int32} (h : 0 ≤ cr_code k) : vp_nar .char ((k.toUInt32 % 65536).toInt32) = k := by
  rcases cr_code_cases h with e | e | e | e | e | e | e | e <;> subst e <;> decide +kernel
theorem cr_byte8 : ∀ j, j < 8 → vp_nar .byte (nI j).toInt8.toInt32 = nI j := by decide +kernel
theorem cr_byte0 : vp_nar .byte 0 = nI 0 := by decide +kernel
theorem cr_and7 : ∀ j, j < 8 → nI j &&& 7 = nI j := by decide +kernel
/-- the answer, out of the frozen rows -/
def cr_ans (d k t o f : Int32) (pt ph : Int64) : Int32 :=
  if k = 76 then (if 0 ≤ o then (if f &&& 1 = 0 then (if pt = ph then ((d &&& 255) <<< ((4 : Int32) &&& 31)) ||| t else -40000) else ((d &&& 255) <<< ((4 : Int32) &&& 31)) ||| t) else o) else ((d &&& 255) <<< ((4 : Int32) &&& 31)) ||| cr_code k
/-- how the component remembers it -/
def cr_enc (a : Int32) : Int32 := if 0 ≤ a then a + 1 else a
theorem cr_or_tab : ∀ d : Fin 256, ∀ c : Fin 16, (nI d.val <<< ((4 : Int32) &&& 31)) ||| nI c.val ≤ 4095 := by decide +kernel
theorem cr_or (d : Int32) {c : Nat} (hc : c < 16) : ((d &&& 255) <<< ((4 : Int32) &&& 31)) ||| nI c ≤ 4095 := by
  obtain ⟨j, hj, e⟩ := pk_andE d (m := 255) 8 (by decide)
  rw [e]
  exact cr_or_tab ⟨j, hj⟩ ⟨c, hc⟩
/-- an answer that isn't negative is at most 4095 where what it is made of is in range -/
theorem cr_ans_fin {d k t o f : Int32} {pt ph : Int64} {t' : Nat} (ht : t' < 8) (et : t = nI t') (hk : k = 76 ∨ 0 ≤ cr_code k) (h0 : 0 ≤ cr_ans d k t o f pt ph) : cr_ans d k t o f pt ph ≤ 4095 := by
  by_cases hb : k = 76 ∧ ¬ 0 ≤ o
  · have e : cr_ans d k t o f pt ph = o := by unfold cr_ans; rw [if_pos hb.1, if_neg hb.2]
    rw [e] at h0
    exact absurd h0 hb.2
  · have h1 : ((d &&& 255) <<< ((4 : Int32) &&& 31)) ||| t ≤ 4095 := by rw [et]; exact cr_or d (by omega)
    unfold cr_ans
    by_cases a : k = 76
    · have b : 0 ≤ o := by
        by_cases z : 0 ≤ o
        · exact z
        · exact absurd ⟨a, z⟩ hb
      rw [if_pos a, if_pos b]
      by_cases c : f &&& 1 = 0
      · rw [if_pos c]
        by_cases e : pt = ph
        · rw [if_pos e]; exact h1
        · rw [if_neg e]; decide
      · rw [if_neg c]; exact h1
    · rw [if_neg a]
      obtain ⟨c, hc, e⟩ := cr_code_small (hk.resolve_left a)
      rw [e]
      exact cr_or d hc
/-- what the memo of a known answer says -/
theorem cr_enc_pos {a : Int32} (h0 : 0 ≤ a) (h : a ≤ 4095) : ¬ cr_enc a ≤ 0 ∧ cr_enc a - 1 = a := by
  unfold cr_enc
  rw [if_pos h0]
  obtain ⟨j, hj, rfl⟩ := nI_of2 (x := a) (M := 4095) (n := 4095) (by decide) (Int32.not_lt.mpr h0) h
  constructor
  · rw [nI_1]; exact nI_nle (by omega) (by omega)
  · rw [nI_1, nI_pred]
theorem cr_enc_neg {a : Int32} (h0 : ¬ 0 ≤ a) : cr_enc a ≤ 0 ∧ ¬ 0 ≤ cr_enc a ∧ cr_enc a = a := by
  unfold cr_enc
  rw [if_neg h0]
  exact ⟨Int32.le_of_lt (Int32.not_le.mp h0), h0, rfl⟩
/-- two longs are equal where their halves are -/
theorem cr_lo32 (z : Int64) : z.toInt32.toBitVec.toNat = uN z % 4294967296 := by
  rw [Int64.toBitVec_toInt32, BitVec.signExtend_eq_setWidth_of_le _ (by decide), BitVec.toNat_setWidth]
  rfl
theorem cr_half {x y : Int64} (h : ((x.toUInt64 >>> ((32 : Int32).toInt64.toUInt64 &&& Int64.toUInt64 63)).toInt64).toInt32 = ((y.toUInt64 >>> ((32 : Int32).toInt64.toUInt64 &&& Int64.toUInt64 63)).toInt64).toInt32) (l : x.toInt32 = y.toInt32) : x = y := by
  have h1 := congrArg (fun z : Int32 => z.toBitVec.toNat) h
  have l1 := congrArg (fun z : Int32 => z.toBitVec.toNat) l
  rw [cr_lo32, cr_lo32, uN_s32, uN_s32] at h1
  rw [cr_lo32, cr_lo32] at l1
  have hx := uN_lt x
  have hy := uN_lt y
  exact uN_inj (by omega)
/-- a row of the frozen table, its first i cells written -/
def cr_row {α : Type} (s o : Nat → α) (j i : Nat) : Nat → α := fun q => if 8 * j ≤ q ∧ q < 8 * j + i then o (q - 8 * j) else s q
theorem cr_row_0 {α : Type} (s o : Nat → α) (j : Nat) : cr_row s o j 0 = s := by
  funext q
  exact if_neg (by omega)
theorem cr_row_s {s o : Nat → Int32} {j i : Nat} : upd (cr_row s o j i) (8 * j + i) (o i) = cr_row s o j (i + 1) := by
  funext q
  unfold upd cr_row
  by_cases h : q = 8 * j + i
  · subst h
    rw [if_pos rfl, if_pos (by omega), Nat.add_sub_cancel_left]
  · rw [if_neg h]
    by_cases h2 : 8 * j ≤ q ∧ q < 8 * j + i
    · rw [if_pos h2, if_pos (by omega)]
    · rw [if_neg h2, if_neg (by omega)]
theorem cr_row_L {s o : Nat → Int64} {j i : Nat} : vp_updL (cr_row s o j i) (8 * j + i) (o i) = cr_row s o j (i + 1) := by
  funext q
  unfold vp_updL cr_row
  by_cases h : q = 8 * j + i
  · subst h
    rw [if_pos rfl, if_pos (by omega), Nat.add_sub_cancel_left]
  · rw [if_neg h]
    by_cases h2 : 8 * j ≤ q ∧ q < 8 * j + i
    · rw [if_pos h2, if_pos (by omega)]
    · rw [if_neg h2, if_neg (by omega)]
theorem cr_row_in {α : Type} {s o : Nat → α} {j t : Nat} (h : t < 8) : cr_row s o j 8 (8 * j + t) = o t := by
  unfold cr_row
  rw [if_pos (by omega), Nat.add_sub_cancel_left]
theorem cr_row_out {α : Type} {s o : Nat → α} {j i t : Nat} (h : t < 8) (n : i ≠ j) : cr_row s o j 8 (8 * i + t) = s (8 * i + t) := if_neg (by omega)
/-- the class table at the start -/
def cr_lo : Nat → Nat → Int32
  | 0 => fun _ => 0
  | j + 1 => upd (cr_lo j) j (vp_nar .short (-1))
theorem cr_short_u {f : Nat → Int32} {k : Nat} {x : Int32} (h : ∀ j, vp_nar .short (f j) = f j) (hx : vp_nar .short x = x) : ∀ j, vp_nar .short (upd f k x j) = upd f k x j := by
  intro j
  by_cases e : j = k
  · subst e; rw [pk_us]; exact hx
  · rw [pk_un e]; exact h j
theorem cr_char_u {f : Nat → Int32} {k : Nat} {x : Int32} (h : ∀ j, vp_nar .char (f j) = f j) (hx : vp_nar .char x = x) : ∀ j, vp_nar .char (upd f k x j) = upd f k x j := by
  intro j
  by_cases e : j = k
  · subst e; rw [pk_us]; exact hx
  · rw [pk_un e]; exact h j
theorem cr_short2 (x : Int32) : vp_nar .short (vp_nar .short x) = vp_nar .short x := by rw [vp_nar_short x]; exact pk_vs x
theorem cr_char2 (x : Int32) : vp_nar .char (vp_nar .char ((x.toUInt32 % 65536).toInt32)) = vp_nar .char ((x.toUInt32 % 65536).toInt32) := by rw [pk_vc, pk_vc]
theorem cr_lo_short : ∀ n j, vp_nar .short (cr_lo n j) = cr_lo n j := by
  intro n
  induction n with
  | zero => intro j; show vp_nar .short 0 = 0; rw [vp_nar_short]; decide
  | succ n ih => exact cr_short_u ih (cr_short2 _)
theorem cr_updL_id {f : Nat → Int64} {k : Nat} {x : Int64} (h : f k = x) : vp_updL f k x = f := by
  funext j
  by_cases e : j = k
  · subst e; rw [pk_uLs]; exact h.symm
  · exact pk_uLn e
end
section
/-! the relation, and each method's walk over a general post -/
def cr_Slot (ho tn di ek me nm : Int32) (tr : Int64) (so sf : Nat → Int32) (sp : Nat → Int64) (j : Nat) : Prop :=
  ∃ h t : Nat, h < 8 ∧ t < 8 ∧ ho = nI h ∧ tn = nI t ∧ ((ek = 76 ∧ nm = nI t) ∨ (¬ ek = 76 ∧ 0 ≤ cr_code ek)) ∧ ((tr = 0 ∧ me = 0) ∨ (¬ tr = 0 ∧ me = cr_enc (cr_ans di ek (nI t) (so (8 * j + t)) (sf (8 * j + t)) (sp (8 * j + t)) (sp (8 * j + h)))))
def cr_R (r : Nat) (lo fl ho tn di ek me nm so sf : Nat → Int32) (tr sp : Nat → Int64) : Prop :=
  r ≤ 8 ∧ (∀ j, vp_nar .short (lo j) = lo j) ∧ (∀ j, vp_nar .char (fl j) = fl j) ∧ (∀ j, j < r → cr_Slot (ho j) (tn j) (di j) (ek j) (me j) (nm j) (tr j) so sf sp j) ∧ (∀ j, r ≤ j → tr j = 0)
/-- both hold one class table and one list of references; the component's memo is the coded answer of the reference's frozen row -/
def i_Rel (_ : Nat) (u : SX) (v : SY) : Prop :=
  ∃ (r : Nat) (lo fl ho tn di ek me nm so sf : Nat → Int32) (tr sp pk : Nat → Int64), u = (nI r, lo, fl, pk, ho, tn, di, ek, me, tr) ∧ v = (nI r, lo, fl, pk, ho, nm, di, ek, so, sf, sp, tr, cr_prim) ∧ cr_R r lo fl ho tn di ek me nm so sf tr sp
theorem cr_ge {x : Int32} {n : Nat} (hn : n < 2 ^ 31) (h : nI n ≤ x) : ¬ x < 0 ∧ ¬ x < nI n := by
  constructor
  · intro z
    exact absurd (Int32.lt_of_le_of_lt h z) (nI_pos hn)
  · exact Int32.not_lt.mpr h
theorem cr_ge8 {x : Int32} (h : nI 8 ≤ x) : ¬ x < 0 ∧ ¬ x ≤ 7 ∧ ¬ x < 8 ∧ 8 ≤ x := by
  have g := cr_ge (by decide) h
  refine ⟨g.1, ?_, g.2, h⟩
  intro z
  exact absurd (Int32.le_trans h z) (by decide)
theorem cr_xcode {post : Int32 → Prop} {u : SX} {k : Int32} (h : post (cr_code k)) : wpX_codeOf post u k := by
  obtain ⟨a1, a2, a3, a4, a5, a6, a7, a8, a9, a10⟩ := u
  unfold cr_code at h
  unfold wpX_codeOf
  refine br_c (fun e => by rw [if_pos e] at h; exact h) (fun e => ?_)
  rw [if_neg e] at h
  refine br_c (fun e => by rw [if_pos e] at h; exact h) (fun e => ?_)
  rw [if_neg e] at h
  refine br_c (fun e => by rw [if_pos e] at h; exact h) (fun e => ?_)
  rw [if_neg e] at h
  refine br_c (fun e => by rw [if_pos e] at h; exact h) (fun e => ?_)
  rw [if_neg e] at h
  refine br_c (fun e => by rw [if_pos e] at h; exact h) (fun e => ?_)
  rw [if_neg e] at h
  refine br_c (fun e => by rw [if_pos e] at h; exact h) (fun e => ?_)
  rw [if_neg e] at h
  refine br_c (fun e => by rw [if_pos e] at h; exact h) (fun e => ?_)
  rw [if_neg e] at h
  refine br_c (fun e => by rw [if_pos e] at h; exact h) (fun e => ?_)
  rw [if_neg e] at h
  exact h
section
variable {post : Int32 → Prop} {k c : Int32} {lo fl ho nm di ek so sf : Nat → Int32} {pk sp tr : Nat → Int64}
theorem cr_pstep {n j : Nat} (hj : j < 8) (f : cr_prim j = k → post (8 + nI j)) (g : ¬ cr_prim j = k → wY_primCode_2 post k c lo fl pk ho nm di ek so sf sp tr cr_prim n (nI (j + 1))) : wY_primCode_2 post k c lo fl pk ho nm di ek so sf sp tr cr_prim (n + 1) (nI j) := by
  have h8 : ¬ (8 : Int32) ≤ nI j := nI_ge (b := 8) hj (by decide)
  rw [wY_primCode_2]
  refine br_f h8 ⟨vp_in_nI hj (by decide), ?_⟩
  rw [nI_clamp (n := j) (by omega)]
  exact br_c f (fun e => nm_r (nI_1 j) (g e))
theorem cr_ycode (h : post (cr_code k)) : wpY_primCode post (c, lo, fl, pk, ho, nm, di, ek, so, sf, sp, tr, cr_prim) k := by
  have hit : ∀ j, j < 8 → cr_prim j = k → post (8 + nI j) := fun j hj e => by rw [← cr_prim_code j hj, e]; exact h
  refine ⟨9, ?_⟩
  refine cr_pstep (n := 8) (j := 0) (by decide) (hit 0 (by decide)) fun e0 => ?_
  refine cr_pstep (n := 7) (j := 1) (by decide) (hit 1 (by decide)) fun e1 => ?_
  refine cr_pstep (n := 6) (j := 2) (by decide) (hit 2 (by decide)) fun e2 => ?_
  refine cr_pstep (n := 5) (j := 3) (by decide) (hit 3 (by decide)) fun e3 => ?_
  refine cr_pstep (n := 4) (j := 4) (by decide) (hit 4 (by decide)) fun e4 => ?_
  refine cr_pstep (n := 3) (j := 5) (by decide) (hit 5 (by decide)) fun e5 => ?_
  refine cr_pstep (n := 2) (j := 6) (by decide) (hit 6 (by decide)) fun e6 => ?_
  refine cr_pstep (n := 1) (j := 7) (by decide) (hit 7 (by decide)) fun e7 => ?_
  rw [cr_prim_0] at e0
  rw [cr_prim_1] at e1
  rw [cr_prim_2] at e2
  rw [cr_prim_3] at e3
  rw [cr_prim_4] at e4
  rw [cr_prim_5] at e5
  rw [cr_prim_6] at e6
  rw [cr_prim_7] at e7
  have e : cr_code k = -1 := by
    unfold cr_code
    rw [if_neg (fun z => e0 z.symm), if_neg (fun z => e1 z.symm), if_neg (fun z => e2 z.symm), if_neg (fun z => e3 z.symm), if_neg (fun z => e4 z.symm), if_neg (fun z => e5 z.symm), if_neg (fun z => e6 z.symm), if_neg (fun z => e7 z.symm)]
  rw [e] at h
  have h8 : (8 : Int32) ≤ nI 8 := by decide
  exact br_t h8 h
end
section
variable {post : Int32 → SX → Prop} {c : Int32} {lo fl ho tn di ek me : Nat → Int32} {pk tr : Nat → Int64} {r j : Nat}
theorem cr_x131 {z d k : Int32} (hr : r < 8) (hp : post (nI r) (nI (r + 1), lo, fl, pk, ho, upd tn r (vp_nar .byte z), upd di r (vp_nar .byte d.toInt8.toInt32), upd ek r (vp_nar .char ((k.toUInt32 % 65536).toInt32)), upd me r 0, vp_updL tr r 0)) : wX_addRef_131 post d k (nI r) z (nI r) (nI r) lo fl pk ho tn di ek me tr := by
  unfold wX_addRef_131
  rw [nI_clamp (n := r) (by omega)]
  have hi : vp_in (nI r) 8 := vp_in_nI hr (by decide)
  exact ⟨hi, nm_e ⟨hi, nm_e ⟨hi, nm_e ⟨hi, nm_e ⟨hi, nm_e (nm_r (nI_1 r) hp)⟩⟩⟩⟩⟩
theorem cr_x167 {a : Int32} (hj : j < 8) (hp : post a (c, lo, fl, pk, ho, tn, di, ek, upd me j (cr_enc a), tr)) : wX_resolve_167 post (nI j) a c lo fl pk ho tn di ek me tr := by
  unfold wX_resolve_167
  unfold cr_enc at hp
  rw [nI_clamp (n := j) (by omega)]
  have hi : vp_in (nI j) 8 := vp_in_nI hj (by decide)
  by_cases z : 0 ≤ a
  · rw [if_pos z] at hp; exact br_t z ⟨hi, nm_e hp⟩
  · rw [if_neg z] at hp; exact br_f z ⟨hi, nm_e hp⟩
theorem cr_x152 {d t : Int32} (hj : j < 8) (hp : post ((d <<< ((4 : Int32) &&& 31)) ||| t) (c, lo, fl, pk, ho, tn, di, ek, upd me j (cr_enc ((d <<< ((4 : Int32) &&& 31)) ||| t)), tr)) : wX_resolve_152 post (nI j) d t c lo fl pk ho tn di ek me tr := by
  unfold wX_resolve_152
  exact nm_e (cr_x167 hj hp)
/-- the component's first resolve of a slot -/
theorem cr_xres {h t : Nat} (hj : j < r) (hr : r ≤ 8) (hm : me j = 0) (hh : h < 8) (ht : t < 8) (eh : ho j = nI h) (et : tn j = nI t) (hp : ∀ a, a = cr_ans (di j) (ek j) (nI t) (lo t) (fl t) (pk t) (pk h) → post a (nI r, lo, fl, pk, ho, tn, di, ek, upd me j (cr_enc a), vp_updL tr j 1)) : wpX_resolve post (nI r, lo, fl, pk, ho, tn, di, ek, me, tr) (nI j) := by
  have j8 : j < 8 := by omega
  have hi : vp_in (nI j) 8 := vp_in_nI j8 (by decide)
  have hit : vp_in (nI t) 8 := vp_in_nI ht (by decide)
  have hih : vp_in (nI h) 8 := vp_in_nI hh (by decide)
  unfold wpX_resolve
  dsimp only
  rw [nI_clamp (n := j) (by omega)]
  refine br_f (nI_pos (by omega)) (br_t (nI_lt hj (by omega)) ⟨hi, nm_r hm (br_t (by decide) (br_t (by decide) ⟨hi, nm_e ⟨hi, nm_e ⟨hi, nm_e ?_⟩⟩⟩))⟩)
  by_cases k76 : ek j = 76
  · refine br_t k76 ⟨hi, nm_r et ⟨hi, nm_r eh ⟨hit, ?_⟩⟩⟩
    rw [nI_clamp (n := t) (by omega), nI_clamp (n := h) (by omega)]
    by_cases o : 0 ≤ lo t
    · by_cases f : fl t &&& 1 = 0
      · by_cases p : pk t = pk h
        · exact br_t o ⟨hit, br_t f ⟨hit, hih, br_t p (cr_x152 j8 (hp _ (by unfold cr_ans; rw [if_pos k76, if_pos o, if_pos f, if_pos p])))⟩⟩
        · exact br_t o ⟨hit, br_t f ⟨hit, hih, br_f p (cr_x167 j8 (hp _ (by unfold cr_ans; rw [if_pos k76, if_pos o, if_pos f, if_neg p])))⟩⟩
      · exact br_t o ⟨hit, br_f f (cr_x152 j8 (hp _ (by unfold cr_ans; rw [if_pos k76, if_pos o, if_neg f])))⟩
    · exact br_f o ⟨hit, nm_e (cr_x167 j8 (hp _ (by unfold cr_ans; rw [if_pos k76, if_neg o])))⟩
  · exact br_f k76 (cr_xcode (nm_e (cr_x167 j8 (hp _ (by unfold cr_ans; rw [if_neg k76])))))
end
section
variable {post : Int32 → SY → Prop} {c : Int32} {lo fl ho nm di ek so sf pr : Nat → Int32} {pk sp tr : Nat → Int64} {r j : Nat}
theorem cr_y79 {h n d k : Int32} (hr : r < 8) (hp : post (nI r) (nI (r + 1), lo, fl, pk, upd ho r (vp_nar .byte h.toInt8.toInt32), upd nm r (vp_nar .byte n.toInt8.toInt32), upd di r (vp_nar .byte d.toInt8.toInt32), upd ek r (vp_nar .char ((k.toUInt32 % 65536).toInt32)), so, sf, sp, tr, pr)) : wY_addRef_79 post h n d k (nI r) lo fl pk ho nm di ek so sf sp tr pr := by
  unfold wY_addRef_79
  rw [nI_clamp (n := r) (by omega)]
  have hi : vp_in (nI r) 8 := vp_in_nI hr (by decide)
  have h8 : nI r < 8 := nI_lt (b := 8) hr (by decide)
  exact br_t h8 (nm_r (nI_1 r) ⟨hi, nm_e ⟨hi, nm_e ⟨hi, nm_e ⟨hi, nm_e hp⟩⟩⟩⟩)
/-- the reference's rules over the frozen row -/
theorem cr_y38 {h t : Nat} (hj : j < 8) (hh : h < 8) (ht : t < 8) (eh : ho j = nI h) (hk : (ek j = 76 ∧ nm j = nI t) ∨ (¬ ek j = 76 ∧ 0 ≤ cr_code (ek j))) (hp : ∀ a, a = cr_ans (di j) (ek j) (nI t) (so (8 * j + t)) (sf (8 * j + t)) (sp (8 * j + t)) (sp (8 * j + h)) → post a (c, lo, fl, pk, ho, nm, di, ek, so, sf, sp, tr, cr_prim)) : wY_resolve_38 post (nI j) c lo fl pk ho nm di ek so sf sp tr cr_prim := by
  have hi : vp_in (nI j) 8 := vp_in_nI hj (by decide)
  have it : vp_in (nI (8 * j + t)) 64 := vp_in_nI (by omega) (by decide)
  have ih : vp_in (nI (8 * j + h)) 64 := vp_in_nI (by omega) (by decide)
  have e8 : nI j * 8 = nI (8 * j) := by rw [Nat.mul_comm 8 j]; exact pk_mul j 8
  unfold wY_resolve_38
  rw [nI_clamp (n := j) (by omega)]
  refine nm_r e8 ⟨hi, nm_e ⟨hi, nm_e ?_⟩⟩
  rcases hk with ⟨k76, en⟩ | ⟨k76, _⟩
  · refine br_t k76 ⟨hi, nm_r (e' := nI t) (by rw [en]; exact cr_and7 t ht) ?_⟩
    rw [eh, cr_and7 h hh, nI_add (8 * j) t, nI_add (8 * j) h, nI_clamp (n := 8 * j + t) (by omega), nI_clamp (n := 8 * j + h) (by omega)]
    refine ⟨it, nm_e ?_⟩
    by_cases o : 0 ≤ so (8 * j + t)
    · refine br_t o ⟨it, ?_⟩
      by_cases f : sf (8 * j + t) &&& 1 = 0
      · refine br_t f ⟨hi, ih, nm_e ⟨it, nm_e ?_⟩⟩
        by_cases p : sp (8 * j + t) = sp (8 * j + h)
        · exact br_t (by rw [p]) (br_t (by rw [p]) (hp _ (by unfold cr_ans; rw [if_pos k76, if_pos o, if_pos f, if_pos p])))
        · have q : -40000 = cr_ans (di j) (ek j) (nI t) (so (8 * j + t)) (sf (8 * j + t)) (sp (8 * j + t)) (sp (8 * j + h)) := by unfold cr_ans; rw [if_pos k76, if_pos o, if_pos f, if_neg p]
          exact br_c (fun a => br_c (fun b => absurd (cr_half a b).symm p) (fun _ => hp _ q)) (fun _ => hp _ q)
      · exact br_f f (hp _ (by unfold cr_ans; rw [if_pos k76, if_pos o, if_neg f]))
    · exact br_f o (hp _ (by unfold cr_ans; rw [if_pos k76, if_neg o]))
  · exact br_f k76 (cr_ycode (hp _ (by unfold cr_ans; rw [if_neg k76])))
end
section
variable {post : Int64 → SY → Prop} {c : Int32} {lo fl ho nm di ek so sf pr : Nat → Int32} {pk sp tr : Nat → Int64} {j : Nat}
theorem cr_yfz (hj : j < 8) (hs : ∀ i, vp_nar .short (lo i) = lo i) (hc : ∀ i, vp_nar .char (fl i) = fl i) (hp : post (tr j + 1) (c, lo, fl, pk, ho, nm, di, ek, cr_row so lo j 8, cr_row sf fl j 8, cr_row sp pk j 8, vp_updL tr j (tr j + 1), pr)) : ∀ d i, i + d = 8 → wY_freeze_2 post (nI j) c (d + 1) (nI i) lo fl pk ho nm di ek (cr_row so lo j i) (cr_row sf fl j i) (cr_row sp pk j i) tr pr := by
  have hi : vp_in (nI j) 8 := vp_in_nI hj (by decide)
  have e8 : nI j * 8 = nI (8 * j) := by rw [Nat.mul_comm 8 j]; exact pk_mul j 8
  intro d
  induction d with
  | zero =>
    intro i h
    have hi8 : i = 8 := by omega
    subst hi8
    rw [wY_freeze_2]
    dsimp only
    rw [nI_clamp (n := j) (by omega)]
    have h8 : (8 : Int32) ≤ nI 8 := by decide
    exact br_t h8 ⟨hi, hi, nm_e hp⟩
  | succ d ih =>
    intro i h
    rw [wY_freeze_2]
    dsimp only
    rw [e8, nI_add (8 * j) i, nI_clamp (n := 8 * j + i) (by omega), nI_clamp (n := i) (by omega), hs i, hc i]
    have h8 : ¬ (8 : Int32) ≤ nI i := nI_ge (b := 8) (by omega) (by decide)
    have ii : vp_in (nI i) 8 := vp_in_nI (by omega) (by decide)
    have ij : vp_in (nI (8 * j + i)) 64 := vp_in_nI (by omega) (by decide)
    exact br_f h8 ⟨ii, ij, nm_r cr_row_s ⟨ii, ij, nm_r cr_row_s ⟨ii, ij, nm_r cr_row_L (nm_r (nI_1 i) (ih (i + 1) (by omega)))⟩⟩⟩
theorem cr_yfreeze (hj : j < 8) (hs : ∀ i, vp_nar .short (lo i) = lo i) (hc : ∀ i, vp_nar .char (fl i) = fl i) (hp : post (tr j + 1) (c, lo, fl, pk, ho, nm, di, ek, cr_row so lo j 8, cr_row sf fl j 8, cr_row sp pk j 8, vp_updL tr j (tr j + 1), pr)) : wpY_freeze post (c, lo, fl, pk, ho, nm, di, ek, so, sf, sp, tr, pr) (nI j) := by
  have h := cr_yfz hj hs hc hp 8 0 rfl
  rw [cr_row_0, cr_row_0, cr_row_0] at h
  exact ⟨9, h⟩
end
end
section
/-! what is owed -/
section
variable {r j : Nat} {lo fl ho tn di ek me nm so sf : Nat → Int32} {tr sp pk : Nat → Int64}
/-- a new reference keeps the relation -/
theorem cr_store {k : Nat} {H T D K N : Int32} {h t : Nat} (hR : cr_R r lo fl ho tn di ek me nm so sf tr sp) (hr : r < 8) (hh : h < 8) (ht : t < 8) (eH : H = nI h) (eT : T = nI t) (hK : (K = 76 ∧ N = nI t) ∨ (¬ K = 76 ∧ 0 ≤ cr_code K)) : i_Rel k (nI (r + 1), lo, fl, pk, upd ho r H, upd tn r T, upd di r D, upd ek r K, upd me r 0, vp_updL tr r 0) (nI (r + 1), lo, fl, pk, upd ho r H, upd nm r N, upd di r D, upd ek r K, so, sf, sp, tr, cr_prim) := by
  obtain ⟨_, hs, hc, hS, hl⟩ := hR
  rw [cr_updL_id (hl r (Nat.le_refl r))]
  refine ⟨r + 1, lo, fl, upd ho r H, upd tn r T, upd di r D, upd ek r K, upd me r 0, upd nm r N, so, sf, tr, sp, pk, rfl, rfl, hr, hs, hc, ?_, fun i hi => hl i (by omega)⟩
  intro i hi
  by_cases e : i = r
  · subst e
    rw [pk_us, pk_us, pk_us, pk_us, pk_us, pk_us]
    exact ⟨h, t, hh, ht, eH, eT, hK, Or.inl ⟨hl i (Nat.le_refl i), rfl⟩⟩
  · rw [pk_un e, pk_un e, pk_un e, pk_un e, pk_un e, pk_un e]
    exact hS i (by omega)
/-- a first resolve keeps the relation -/
theorem cr_frz {k : Nat} {a : Int32} {h t : Nat} (hR : cr_R r lo fl ho tn di ek me nm so sf tr sp) (hj : j < r) (hh : h < 8) (ht : t < 8) (eh : ho j = nI h) (et : tn j = nI t) (hk : (ek j = 76 ∧ nm j = nI t) ∨ (¬ ek j = 76 ∧ 0 ≤ cr_code (ek j))) (ea : a = cr_ans (di j) (ek j) (nI t) (lo t) (fl t) (pk t) (pk h)) : i_Rel k (nI r, lo, fl, pk, ho, tn, di, ek, upd me j (cr_enc a), vp_updL tr j 1) (nI r, lo, fl, pk, ho, nm, di, ek, cr_row so lo j 8, cr_row sf fl j 8, cr_row sp pk j 8, vp_updL tr j 1, cr_prim) := by
  obtain ⟨h8, hs, hc, hS, hl⟩ := hR
  refine ⟨r, lo, fl, ho, tn, di, ek, upd me j (cr_enc a), nm, cr_row so lo j 8, cr_row sf fl j 8, vp_updL tr j 1, cr_row sp pk j 8, pk, rfl, rfl, h8, hs, hc, ?_, ?_⟩
  · intro i hi
    by_cases e : i = j
    · subst e
      rw [pk_us, pk_uLs]
      refine ⟨h, t, hh, ht, eh, et, hk, Or.inr ⟨by decide, ?_⟩⟩
      rw [cr_row_in ht, cr_row_in ht, cr_row_in ht, cr_row_in hh, ea]
    · rw [pk_un e, pk_uLn e]
      obtain ⟨h', t', hh', ht', eh', et', hk', hm⟩ := hS i hi
      refine ⟨h', t', hh', ht', eh', et', hk', ?_⟩
      rw [cr_row_out ht' e, cr_row_out ht' e, cr_row_out ht' e, cr_row_out hh' e]
      exact hm
  · intro i hi
    rw [pk_uLn (by omega)]
    exact hl i hi
end
theorem i_up {k : Nat} {u : SX} {v : SY} (h : i_Rel k u v) : i_Rel (k + 6) u v := h
section
variable {f : Int32} {lo fl ho tn di ek me nm so sf pr : Nat → Int32} {tr sp pk : Nat → Int64}
theorem cr_xi {post : SX → Prop} (hp : post (0, cr_lo 8, fl, pk, ho, tn, di, ek, me, tr)) : ∀ d i, i + d = 8 → wX_init_78 post f (d + 1) (nI i) (cr_lo i) fl pk ho tn di ek me tr := by
  intro d
  induction d with
  | zero =>
    intro i h
    have hi8 : i = 8 := by omega
    subst hi8
    have h8 : (8 : Int32) ≤ nI 8 := by decide
    exact br_t h8 hp
  | succ d ih =>
    intro i h
    rw [wX_init_78]
    dsimp only
    rw [nI_clamp (n := i) (by omega)]
    have h8 : ¬ (8 : Int32) ≤ nI i := nI_ge (b := 8) (by omega) (by decide)
    exact br_f h8 ⟨vp_in_nI (by omega) (by decide), nm_r (e' := cr_lo (i + 1)) rfl (nm_r (nI_1 i) (ih (i + 1) (by omega)))⟩
theorem cr_yi {post : SY → Prop} (hp : post (f, cr_lo 8, fl, pk, ho, nm, di, ek, so, sf, sp, tr, cr_prim)) : ∀ d i, i + d = 8 → wY_init_102 post f (d + 1) (nI i) (cr_lo i) fl pk ho nm di ek so sf sp tr (fun _ => 0) := by
  intro d
  induction d with
  | zero =>
    intro i h
    have hi8 : i = 8 := by omega
    subst hi8
    have h8 : (8 : Int32) ≤ nI 8 := by decide
    exact br_t h8 (nm_e (nm_e (nm_e (nm_e (nm_e (nm_e (nm_e (nm_e hp))))))))
  | succ d ih =>
    intro i h
    rw [wY_init_102]
    dsimp only
    rw [nI_clamp (n := i) (by omega)]
    have h8 : ¬ (8 : Int32) ≤ nI i := nI_ge (b := 8) (by omega) (by decide)
    exact br_f h8 ⟨vp_in_nI (by omega) (by decide), nm_r (e' := cr_lo (i + 1)) rfl (nm_r (nI_1 i) (ih (i + 1) (by omega)))⟩
end
theorem i_vc0 : wpX_init (fun u => wpY_init (fun v => i_Rel 0 u v)) := by
  refine ⟨9, cr_xi ?_ 8 0 rfl⟩
  refine ⟨9, cr_yi ?_ 8 0 rfl⟩
  refine ⟨0, cr_lo 8, fun _ => 0, fun _ => 0, fun _ => 0, fun _ => 0, fun _ => 0, fun _ => 0, fun _ => 0, fun _ => 0, fun _ => 0, fun _ => 0, fun _ => 0, fun _ => 0, rfl, rfl, by decide, cr_lo_short 8, ?_, fun j hj => absurd hj (Nat.not_lt_zero j), fun _ _ => rfl⟩
  intro j
  show vp_nar .char 0 = 0
  decide +kernel
theorem i_vc_setClass {k : Nat} {u : SX} {v : SY} (I : i_Rel k u v) (hk : k + 6 ≤ 3072) (v1 : Int32) (v2 : Int32) (v3 : Int32) (a3 : Int64) : wpX_setClass (fun r u' => wpY_setClass (fun r' v' => r' = r ∧ i_Rel (k + 6) u' v') v v1 v2 v3 a3) u v1 v2 v3 a3 := by
  have keep : i_Rel (k + 6) u v := I
  obtain ⟨r, lo, fl, ho, tn, di, ek, me, nm, so, sf, tr, sp, pk, rfl, rfl, h8, hs, hc, hS, hl⟩ := I
  rcases pk_ix v1 (n := 8) (by decide) with h | h | ⟨j, hj, rfl⟩
  · exact br_t h (br_t h ⟨rfl, keep⟩)
  · obtain ⟨a, b, c, _⟩ := cr_ge8 h
    exact br_f a (br_f b (br_f a (br_f c ⟨rfl, keep⟩)))
  · have a : ¬ nI j < 0 := nI_pos (by omega)
    have b : nI j ≤ 7 := nI_le (b := 7) (by omega) (by decide)
    have c : nI j < 8 := nI_lt (b := 8) hj (by decide)
    have hi : vp_in (nI j) 8 := vp_in_nI hj (by decide)
    exact br_f a (br_t b ⟨hi, nm_e ⟨hi, nm_e ⟨hi, nm_e (br_f a (br_t c ⟨hi, nm_e ⟨hi, nm_e ⟨hi, nm_e ⟨rfl, r, _, _, ho, tn, di, ek, me, nm, so, sf, tr, sp, _, rfl, rfl, h8, cr_short_u hs (cr_short2 _), cr_char_u hc (cr_char2 _), hS, hl⟩⟩⟩⟩))⟩⟩⟩)
theorem i_vc_changeClass {k : Nat} {u : SX} {v : SY} (I : i_Rel k u v) (hk : k + 6 ≤ 3072) (v1 : Int32) (v2 : Int32) : wpX_changeClass (fun r u' => wpY_changeClass (fun r' v' => r' = r ∧ i_Rel (k + 6) u' v') v v1 v2) u v1 v2 := by
  have keep : i_Rel (k + 6) u v := I
  obtain ⟨r, lo, fl, ho, tn, di, ek, me, nm, so, sf, tr, sp, pk, rfl, rfl, h8, hs, hc, hS, hl⟩ := I
  rcases pk_ix v1 (n := 8) (by decide) with h | h | ⟨j, hj, rfl⟩
  · exact br_t h (br_t h ⟨rfl, keep⟩)
  · obtain ⟨a, b, c, _⟩ := cr_ge8 h
    exact br_f a (br_f b (br_f a (br_f c ⟨rfl, keep⟩)))
  · have a : ¬ nI j < 0 := nI_pos (by omega)
    have b : nI j ≤ 7 := nI_le (b := 7) (by omega) (by decide)
    have c : nI j < 8 := nI_lt (b := 8) hj (by decide)
    have hi : vp_in (nI j) 8 := vp_in_nI hj (by decide)
    exact br_f a (br_t b ⟨hi, nm_e ⟨hi, nm_e (br_f a (br_t c ⟨hi, nm_e ⟨hi, nm_e ⟨rfl, r, _, fl, ho, tn, di, ek, me, nm, so, sf, tr, sp, pk, rfl, rfl, h8, cr_short_u hs (cr_short2 _), hc, hS, hl⟩⟩⟩))⟩⟩)
theorem i_vc_attempts {k : Nat} {u : SX} {v : SY} (I : i_Rel k u v) (hk : k + 6 ≤ 3072) (v1 : Int32) : wpX_attempts (fun r => wpY_attempts (fun r' => r' = r ∧ i_Rel (k + 6) u v) v v1) u v1 := by
  have keep : i_Rel (k + 6) u v := I
  obtain ⟨r, lo, fl, ho, tn, di, ek, me, nm, so, sf, tr, sp, pk, rfl, rfl, h8, hs, hc, hS, hl⟩ := I
  rcases pk_ix v1 (n := r) (by omega) with h | h | ⟨j, hj, rfl⟩
  · exact br_t h (br_t h ⟨rfl, keep⟩)
  · obtain ⟨a, b⟩ := cr_ge (by omega) h
    exact br_f a (br_f b (br_f a (br_c (fun _ => ⟨rfl, keep⟩) (fun _ => br_f b ⟨rfl, keep⟩))))
  · have a : ¬ nI j < 0 := nI_pos (by omega)
    have b : nI j < nI r := nI_lt hj (by omega)
    have c : ¬ (8 : Int32) ≤ nI j := nI_ge (b := 8) (by omega) (by decide)
    have hi : vp_in (nI j) 8 := vp_in_nI (by omega) (by decide)
    exact br_f a (br_t b ⟨hi, br_f a (br_f c (br_t b ⟨hi, rfl, keep⟩))⟩)
theorem i_vc_packageOf {k : Nat} {u : SX} {v : SY} (I : i_Rel k u v) (hk : k + 6 ≤ 3072) (v1 : Int32) : wpX_packageOf (fun r => wpY_packageOf (fun r' => r' = r ∧ i_Rel (k + 6) u v) v v1) u v1 := by
  have keep : i_Rel (k + 6) u v := I
  obtain ⟨r, lo, fl, ho, tn, di, ek, me, nm, so, sf, tr, sp, pk, rfl, rfl, h8, hs, hc, hS, hl⟩ := I
  rcases pk_ix v1 (n := 8) (by decide) with h | h | ⟨j, hj, rfl⟩
  · exact br_t h (br_t h ⟨rfl, keep⟩)
  · obtain ⟨a, b, c, _⟩ := cr_ge8 h
    exact br_f a (br_f b (br_f a (br_f c ⟨rfl, keep⟩)))
  · have a : ¬ nI j < 0 := nI_pos (by omega)
    have b : nI j ≤ 7 := nI_le (b := 7) (by omega) (by decide)
    have c : nI j < 8 := nI_lt (b := 8) hj (by decide)
    have hi : vp_in (nI j) 8 := vp_in_nI hj (by decide)
    exact br_f a (br_t b ⟨hi, br_f a (br_t c ⟨hi, rfl, keep⟩)⟩)
theorem i_vc_resolve {k : Nat} {u : SX} {v : SY} (I : i_Rel k u v) (hk : k + 6 ≤ 3072) (v1 : Int32) : wpX_resolve (fun r u' => wpY_resolve (fun r' v' => r' = r ∧ i_Rel (k + 6) u' v') v v1) u v1 := by
  have keep : i_Rel (k + 6) u v := I
  obtain ⟨r, lo, fl, ho, tn, di, ek, me, nm, so, sf, tr, sp, pk, rfl, rfl, hR⟩ := I
  have h8 : r ≤ 8 := hR.1
  rcases pk_ix v1 (n := r) (by omega) with h | h | ⟨j, hj, rfl⟩
  · exact br_t h (br_t h ⟨rfl, keep⟩)
  · obtain ⟨a, b⟩ := cr_ge (by omega) h
    exact br_f a (br_f b (br_f a (br_c (fun _ => ⟨rfl, keep⟩) (fun _ => br_f b ⟨rfl, keep⟩))))
  · have a : ¬ nI j < 0 := nI_pos (by omega)
    have b : nI j < nI r := nI_lt hj (by omega)
    have c : ¬ (8 : Int32) ≤ nI j := nI_ge (b := 8) (by omega) (by decide)
    have j8 : j < 8 := by omega
    have hi : vp_in (nI j) 8 := vp_in_nI j8 (by decide)
    have ej : (nI j).toNatClampNeg = j := nI_clamp (by omega)
    obtain ⟨h, t, hh, ht, eh, et, hk, hm⟩ := hR.2.2.2.1 j hj
    rcases hm with ⟨ht0, hm0⟩ | ⟨ht1, hm1⟩
    · refine cr_xres hj h8 hm0 hh ht eh et ?_
      intro x ex
      unfold wpY_resolve
      dsimp only
      rw [ej]
      refine br_f a (br_f c (br_t b ⟨hi, br_t ht0 ?_⟩))
      refine cr_yfreeze j8 hR.2.1 hR.2.2.1 ?_
      dsimp only
      rw [ht0, show (0 : Int64) + 1 = 1 from rfl]
      refine cr_y38 j8 hh ht eh hk ?_
      intro y ey
      rw [cr_row_in ht, cr_row_in ht, cr_row_in ht, cr_row_in hh, ← ex] at ey
      exact ⟨ey, cr_frz hR hj hh ht eh et hk ex⟩
    · have hY : ∀ x u', x = cr_ans (di j) (ek j) (nI t) (so (8 * j + t)) (sf (8 * j + t)) (sp (8 * j + t)) (sp (8 * j + h)) → u' = (nI r, lo, fl, pk, ho, tn, di, ek, me, tr) → wpY_resolve (fun r' v' => r' = x ∧ i_Rel (k + 6) u' v') (nI r, lo, fl, pk, ho, nm, di, ek, so, sf, sp, tr, cr_prim) (nI j) := by
        intro x u' ex eu
        unfold wpY_resolve
        dsimp only
        rw [ej]
        refine br_f a (br_f c (br_t b ⟨hi, br_f ht1 ?_⟩))
        refine cr_y38 j8 hh ht eh hk ?_
        intro y ey
        exact ⟨ey.trans ex.symm, by rw [eu]; exact keep⟩
      unfold wpX_resolve
      dsimp only
      rw [ej]
      refine br_f a (br_t b ⟨hi, nm_r hm1 ?_⟩)
      have hk' : ek j = 76 ∨ 0 ≤ cr_code (ek j) := hk.imp (fun z => z.1) (fun z => z.2)
      by_cases z : 0 ≤ cr_ans (di j) (ek j) (nI t) (so (8 * j + t)) (sf (8 * j + t)) (sp (8 * j + t)) (sp (8 * j + h))
      · have e := cr_enc_pos z (cr_ans_fin ht rfl hk' z)
        exact br_f e.1 (hY _ _ e.2 rfl)
      · have e := cr_enc_neg z
        exact br_t e.1 (br_f e.2.1 (hY _ _ e.2.2 rfl))
section
variable {r k h t : Nat} {lo fl ho tn di ek me nm so sf : Nat → Int32} {tr sp pk : Nat → Int64} {Q : Int32 → SX → Prop} {d x n : Int32}
/-- the tails of addRef, both sides: a class -/
theorem cr_tailL (hR : cr_R r lo fl ho tn di ek me nm so sf tr sp) (hh : h < 8) (ht : t < 8) (hQ : ∀ a u', wY_addRef_51 (fun r' v' => r' = a ∧ i_Rel k u' v') (nI h) (nI t) d 76 (nI r) lo fl pk ho nm di ek so sf sp tr cr_prim → Q a u') : wX_addRef_61 Q (nI h) (nI t) d 76 1 (nI r) lo fl pk ho tn di ek me tr := by
  have keep : i_Rel k (nI r, lo, fl, pk, ho, tn, di, ek, me, tr) (nI r, lo, fl, pk, ho, nm, di, ek, so, sf, sp, tr, cr_prim) := ⟨r, lo, fl, ho, tn, di, ek, me, nm, so, sf, tr, sp, pk, rfl, rfl, hR⟩
  have h10 : ¬ (1 : Int32) = 0 := by decide
  unfold wX_addRef_61
  unfold wY_addRef_51 at hQ
  by_cases d0 : d < 0
  · exact br_t d0 (hQ _ _ (br_t d0 ⟨rfl, keep⟩))
  · by_cases d2 : d ≤ 255
    · refine br_f d0 (br_t d2 (br_f h10 ?_))
      unfold wX_addRef_87
      by_cases hr : r < 8
      · have h8 : nI r < 8 := nI_lt (b := 8) hr (by decide)
        have hi : vp_in (nI r) 8 := vp_in_nI hr (by decide)
        rw [nI_clamp (n := r) (by omega)]
        refine br_t h8 ⟨hi, nm_e (br_f h10 ?_)⟩
        refine cr_x131 hr (hQ _ _ ?_)
        refine br_f d0 (br_t d2 (br_t rfl ?_))
        refine cr_y79 hr ⟨rfl, ?_⟩
        exact cr_store hR hr hh ht (cr_byte8 h hh) (cr_byte8 t ht) (Or.inl ⟨cr_kind76, cr_byte8 t ht⟩)
      · have h8 : ¬ nI r < 8 := nI_nlt (b := 8) (by omega) (by have := hR.1; omega)
        refine br_f h8 (hQ _ _ ?_)
        refine br_f d0 (br_t d2 (br_t rfl ?_))
        unfold wY_addRef_79
        exact br_f h8 ⟨rfl, keep⟩
    · exact br_f d0 (br_f d2 (hQ _ _ (br_f d0 (br_f d2 ⟨rfl, keep⟩))))
/-- the tails of addRef, both sides: a primitive -/
theorem cr_tailP (hR : cr_R r lo fl ho tn di ek me nm so sf tr sp) (hh : h < 8) (hx : ¬ x = 76) (hc : 0 ≤ cr_code x) (hQ : ∀ a u', wY_addRef_51 (fun r' v' => r' = a ∧ i_Rel k u' v') (nI h) n d x (nI r) lo fl pk ho nm di ek so sf sp tr cr_prim → Q a u') : wX_addRef_61 Q (nI h) n d x 0 (nI r) lo fl pk ho tn di ek me tr := by
  have keep : i_Rel k (nI r, lo, fl, pk, ho, tn, di, ek, me, tr) (nI r, lo, fl, pk, ho, nm, di, ek, so, sf, sp, tr, cr_prim) := ⟨r, lo, fl, ho, tn, di, ek, me, nm, so, sf, tr, sp, pk, rfl, rfl, hR⟩
  unfold wX_addRef_61
  unfold wY_addRef_51 at hQ
  by_cases d0 : d < 0
  · exact br_t d0 (hQ _ _ (br_t d0 ⟨rfl, keep⟩))
  · by_cases d2 : d ≤ 255
    · by_cases dz : d = 0
      · exact br_f d0 (br_t d2 (br_t rfl (br_t dz (hQ _ _ (br_f d0 (br_t d2 (br_f hx (br_t dz ⟨rfl, keep⟩))))))))
      · refine br_f d0 (br_t d2 (br_t rfl (br_f dz ?_)))
        unfold wX_addRef_87
        by_cases hr : r < 8
        · have h8 : nI r < 8 := nI_lt (b := 8) hr (by decide)
          have hi : vp_in (nI r) 8 := vp_in_nI hr (by decide)
          rw [nI_clamp (n := r) (by omega)]
          refine br_t h8 ⟨hi, nm_e (br_t rfl ?_)⟩
          refine cr_x131 hr (hQ _ _ ?_)
          refine br_f d0 (br_t d2 (br_f hx (br_f dz ?_)))
          refine cr_y79 hr ⟨rfl, ?_⟩
          have ex : vp_nar .char ((x.toUInt32 % 65536).toInt32) = x := cr_kind hc
          refine cr_store (t := 0) hR hr hh (by decide) (cr_byte8 h hh) cr_byte0 (Or.inr ?_)
          rw [ex]
          exact ⟨hx, hc⟩
        · have h8 : ¬ nI r < 8 := nI_nlt (b := 8) (by omega) (by have := hR.1; omega)
          refine br_f h8 (hQ _ _ ?_)
          refine br_f d0 (br_t d2 (br_f hx (br_f dz ?_)))
          unfold wY_addRef_79
          exact br_f h8 ⟨rfl, keep⟩
    · exact br_f d0 (br_f d2 (hQ _ _ (br_f d0 (br_f d2 ⟨rfl, keep⟩))))
end
theorem i_vc_addRef {k : Nat} {u : SX} {v : SY} (I : i_Rel k u v) (hk : k + 6 ≤ 3072) (v1 : Int32) (v2 : Int32) (v3 : Int32) (v4 : Int32) : wpX_addRef (fun r u' => wpY_addRef (fun r' v' => r' = r ∧ i_Rel (k + 6) u' v') v v1 v2 v3 v4) u v1 v2 v3 v4 := by
  have keep : i_Rel (k + 6) u v := I
  obtain ⟨r, lo, fl, ho, tn, di, ek, me, nm, so, sf, tr, sp, pk, rfl, rfl, hR⟩ := I
  unfold wpX_addRef wpY_addRef
  dsimp only
  rcases pk_ix v1 (n := 8) (by decide) with h | h | ⟨h, hh, rfl⟩
  · exact br_t h (br_t h ⟨rfl, keep⟩)
  · obtain ⟨a, b, c, _⟩ := cr_ge8 h
    exact br_f a (br_f b (br_f a (br_f c ⟨rfl, keep⟩)))
  · have a : ¬ nI h < 0 := nI_pos (by omega)
    have b : nI h ≤ 7 := nI_le (b := 7) (by omega) (by decide)
    have c : nI h < 8 := nI_lt (b := 8) hh (by decide)
    by_cases k76 : v4 = 76
    · subst k76
      have h10 : ¬ (1 : Int32) = 0 := by decide
      refine br_f a (br_t b (br_t rfl ?_))
      unfold wX_addRef_24
      refine br_f h10 ?_
      unfold wX_addRef_43 wY_addRef_31
      refine br_f h10 ?_
      rcases pk_ix v2 (n := 8) (by decide) with z | z | ⟨t, ht, rfl⟩
      · exact br_t z (br_f a (br_t c (br_t rfl (br_t rfl (br_t z ⟨rfl, keep⟩)))))
      · obtain ⟨a', b', c', _⟩ := cr_ge8 z
        exact br_f a' (br_f b' (br_f a (br_t c (br_t rfl (br_t rfl (br_f a' (br_f c' ⟨rfl, keep⟩)))))))
      · have a' : ¬ nI t < 0 := nI_pos (by omega)
        have b' : nI t ≤ 7 := nI_le (b := 7) (by omega) (by decide)
        have c' : nI t < 8 := nI_lt (b := 8) ht (by decide)
        refine br_f a' (br_t b' (cr_tailL (k := k + 6) hR hh ht ?_))
        intro x u' hw
        exact br_f a (br_t c (br_t rfl (br_t rfl (br_f a' (br_t c' hw)))))
    · refine br_f a (br_t b (br_f k76 ?_))
      unfold wX_addRef_24
      refine br_t rfl (cr_xcode ?_)
      by_cases hc : 0 ≤ cr_code v4
      · refine br_t hc ?_
        unfold wX_addRef_43
        refine br_t rfl (cr_tailP (k := k + 6) hR hh k76 hc ?_)
        intro x u' hw
        refine br_f a (br_t c (br_f k76 (cr_ycode (br_t hc ?_))))
        unfold wY_addRef_31
        exact br_f k76 hw
      · exact br_f hc (br_f a (br_t c (br_f k76 (cr_ycode (br_f hc ⟨rfl, keep⟩)))))
end
