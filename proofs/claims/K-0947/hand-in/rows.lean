section
theorem pk_us {f : Nat → Int32} {k : Nat} {x : Int32} : upd f k x k = x := if_pos rfl
theorem pk_un {f : Nat → Int32} {k j : Nat} {x : Int32} (h : j ≠ k) : upd f k x j = f j := if_neg h
theorem pk_uLs {f : Nat → Int64} {k : Nat} {x : Int64} : vp_updL f k x k = x := if_pos rfl
theorem pk_uLn {f : Nat → Int64} {k j : Nat} {x : Int64} (h : j ≠ k) : vp_updL f k x j = f j := if_neg h
theorem wb_tb (n : Nat) : (lN n).toBitVec = BitVec.ofNat 64 n := rfl
theorem wb_inj {a b : Int64} (h : a.toBitVec = b.toBitVec) : a = b := Int64.toBitVec_inj.mp h
theorem wb_tn {n : Nat} (h : n < 2 ^ 64) : (lN n).toBitVec.toNat = n := by rw [wb_tb, BitVec.toNat_ofNat, Nat.mod_eq_of_lt h]
theorem wb_c : ∀ k, k < 64 → ((nI k).toInt64 &&& 63) = lN k := by decide +kernel
theorem wb_cu : ∀ k, k < 64 → ((nI k).toInt64.toUInt64 &&& Int64.toUInt64 63) = UInt64.ofNat k := by decide +kernel
theorem wb_sm : ∀ k, k < 64 → (BitVec.ofNat 64 k).smod 64 = BitVec.ofNat 64 k := by decide +kernel
theorem wb_lt2 {a b : Nat} (h : a < b) : 2 ^ a < 2 ^ b := Nat.pow_lt_pow_right (by decide) h
theorem wb_shr {n k : Nat} (hn : n < 2 ^ 64) (hk : k < 64) : ((lN n).toUInt64 >>> ((nI k).toInt64.toUInt64 &&& Int64.toUInt64 63)).toInt64 = lN (n / 2 ^ k) := by
  rw [wb_cu k hk]
  apply wb_inj
  apply BitVec.eq_of_toNat_eq
  show ((lN n).toUInt64 >>> UInt64.ofNat k).toNat = (BitVec.ofNat 64 _).toNat
  have h1 : (UInt64.ofNat k).toNat = k := by
    show (BitVec.ofNat 64 k).toNat = k
    rw [BitVec.toNat_ofNat, Nat.mod_eq_of_lt (by omega)]
  have h2 : (lN n).toUInt64.toNat = n := wb_tn hn
  rw [UInt64.toNat_shiftRight, h1, h2, Nat.mod_eq_of_lt hk, Nat.shiftRight_eq_div_pow, BitVec.toNat_ofNat, Nat.mod_eq_of_lt (Nat.lt_of_le_of_lt (Nat.div_le_self _ _) hn)]
theorem wb_shl (n : Nat) {k : Nat} (hk : k < 64) : lN n <<< ((nI k).toInt64 &&& 63) = lN (n * 2 ^ k) := by
  rw [wb_c k hk]
  apply wb_inj
  rw [Int64.toBitVec_shiftLeft, wb_tb, wb_tb, wb_tb, wb_sm k hk]
  apply BitVec.eq_of_toNat_eq
  rw [BitVec.shiftLeft_eq', BitVec.toNat_shiftLeft, BitVec.toNat_ofNat, BitVec.toNat_ofNat, BitVec.toNat_ofNat, Nat.mod_eq_of_lt (show k < 2 ^ 64 by omega), Nat.shiftLeft_eq, Nat.mul_mod, Nat.mod_mod, ← Nat.mul_mod]
theorem wb_and {a b : Nat} (ha : a < 2 ^ 64) (hb : b < 2 ^ 64) : lN a &&& lN b = lN (a &&& b) := by
  apply wb_inj
  rw [Int64.toBitVec_and, wb_tb, wb_tb, wb_tb]
  apply BitVec.eq_of_toNat_eq
  rw [BitVec.toNat_and, BitVec.toNat_ofNat, BitVec.toNat_ofNat, BitVec.toNat_ofNat, Nat.mod_eq_of_lt ha, Nat.mod_eq_of_lt hb, Nat.mod_eq_of_lt (Nat.and_lt_two_pow _ hb)]
theorem wb_mask {n k : Nat} (hn : n < 2 ^ 64) (hk : k < 64) : lN n &&& lN (2 ^ k - 1) = lN (n % 2 ^ k) := by
  rw [wb_and hn (by have := wb_lt2 hk; omega), Nat.and_two_pow_sub_one_eq_mod]
theorem pk_lT {n : Nat} (h : n < 2 ^ 63) : (lN n).toInt = (n : Int) := lg_ofNat_toInt h
theorem pk_lEQ {a b : Nat} (ha : a < 2 ^ 63) (hb : b < 2 ^ 63) : lN a = lN b ↔ a = b := by
  rw [← Int64.toInt_inj, pk_lT ha, pk_lT hb]; omega
end
section
/-! ===== a group's word: kind at bit 62, start at bit 32, length below ===== -/
/-- the word of kind k, start p, length n -/
def ec_w (k p n : Nat) : Nat := k * 4611686018427387904 + p * 4294967296 + n
theorem ec_w_lt {k p n : Nat} (hk : k ≤ 1) (hp : p < 1073741824) (hn : n ≤ 1073741824) : ec_w k p n < 18446744073709551616 := by
  unfold ec_w; omega
theorem ec_w_k {k p n : Nat} (hk : k ≤ 1) (hp : p < 1073741824) (hn : n ≤ 1073741824) : ec_w k p n / 4611686018427387904 % 4 = k := by
  unfold ec_w; omega
theorem ec_w_p {k p n : Nat} (hk : k ≤ 1) (hp : p < 1073741824) (hn : n ≤ 1073741824) : ec_w k p n / 4294967296 % 1073741824 = p := by
  unfold ec_w; omega
theorem ec_w_n {k p n : Nat} (hk : k ≤ 1) (hp : p < 1073741824) (hn : n ≤ 1073741824) : ec_w k p n % 4294967296 = n := by
  unfold ec_w; omega
theorem ec_w_1 (k p n : Nat) : lN (ec_w k p n) + 1 = lN (ec_w k p (n + 1)) := by
  rw [lN_1]
  exact congrArg lN (by unfold ec_w; omega)
/-- X reads the kind -/
theorem ec_kind {k p n : Nat} (hk : k ≤ 1) (hp : p < 1073741824) (hn : n ≤ 1073741824) :
    (((lN (ec_w k p n)).toUInt64 >>> ((62 : Int32).toInt64.toUInt64 &&& Int64.toUInt64 63)).toInt64) &&& 3 = lN k := by
  have h := ec_w_lt hk hp hn
  have e : ((lN (ec_w k p n)).toUInt64 >>> ((62 : Int32).toInt64.toUInt64 &&& Int64.toUInt64 63)).toInt64 = lN (ec_w k p n / 2 ^ 62) := wb_shr (k := 62) h (by decide)
  have m : lN (ec_w k p n / 2 ^ 62) &&& 3 = lN (ec_w k p n / 2 ^ 62 % 2 ^ 2) := wb_mask (k := 2) (Nat.lt_of_le_of_lt (Nat.div_le_self _ _) h) (by decide)
  rw [e, m]
  exact congrArg lN (ec_w_k hk hp hn)
/-- X reads the start -/
theorem ec_start {k p n : Nat} (hk : k ≤ 1) (hp : p < 1073741824) (hn : n ≤ 1073741824) :
    (((lN (ec_w k p n)).toUInt64 >>> ((32 : Int32).toInt64.toUInt64 &&& Int64.toUInt64 63)).toInt64) &&& 1073741823 = lN p := by
  have h := ec_w_lt hk hp hn
  have e : ((lN (ec_w k p n)).toUInt64 >>> ((32 : Int32).toInt64.toUInt64 &&& Int64.toUInt64 63)).toInt64 = lN (ec_w k p n / 2 ^ 32) := wb_shr (k := 32) h (by decide)
  have m : lN (ec_w k p n / 2 ^ 32) &&& 1073741823 = lN (ec_w k p n / 2 ^ 32 % 2 ^ 30) := wb_mask (k := 30) (Nat.lt_of_le_of_lt (Nat.div_le_self _ _) h) (by decide)
  rw [e, m]
  exact congrArg lN (ec_w_p hk hp hn)
/-- X reads the length -/
theorem ec_len {k p n : Nat} (hk : k ≤ 1) (hp : p < 1073741824) (hn : n ≤ 1073741824) : lN (ec_w k p n) &&& 4294967295 = lN n := by
  have h := ec_w_lt hk hp hn
  have m : lN (ec_w k p n) &&& 4294967295 = lN (ec_w k p n % 2 ^ 32) := wb_mask (k := 32) h (by decide)
  rw [m]
  exact congrArg lN (ec_w_n hk hp hn)
theorem ec_sh62 (k : Nat) : lN k <<< ((62 : Int32).toInt64 &&& 63) = lN (k * 4611686018427387904) := wb_shl k (k := 62) (by decide)
theorem ec_sh32 (p : Nat) : lN p <<< ((32 : Int32).toInt64 &&& 63) = lN (p * 4294967296) := wb_shl p (k := 32) (by decide)
/-- Y's pack gives the word -/
theorem ec_pack {post : Int64 → Prop} {k p n : Nat} (hk : k ≤ 1) (hp : p < 1073741824) (h : post (lN (ec_w k p n))) : wpY_pack post (nI k) (nI p) (lN n) := by
  unfold wpY_pack
  rw [nI_l (by omega), nI_l (by omega), ec_sh62, ec_sh32, lN_add, lN_add]
  exact h
/-- X's new words -/
theorem ec_newT {p : Nat} (hp : p < 1073741824) : ((nI p).toInt64 <<< ((32 : Int32).toInt64 &&& 63)) + 1 = lN (ec_w 0 p 1) := by
  rw [nI_l (by omega), ec_sh32, lN_1]
  exact congrArg lN (by unfold ec_w; omega)
theorem ec_newE {p : Nat} (hp : p < 1073741824) : (4611686018427387904 + ((nI p).toInt64 <<< ((32 : Int32).toInt64 &&& 63))) + 1 = lN (ec_w 1 p 1) := by
  have e : (4611686018427387904 : Int64) = lN 4611686018427387904 := rfl
  rw [nI_l (by omega), ec_sh32, e, lN_add, lN_1]
  exact congrArg lN (by unfold ec_w; omega)
theorem ec_bk {k : Nat} (hk : k ≤ 1) : vp_nar .byte (nI k).toInt8.toInt32 = nI k := by
  rw [vp_nar_byte]
  have h : k = 0 ∨ k = 1 := by omega
  rcases h with rfl | rfl <;> decide
/-- the two sums that are compared with the place -/
theorem ec_addI {s n p : Nat} (hs : s < 1073741824) (hn : n ≤ 1073741824) (hp : p < 1073741824) : lN s + lN n = (nI p).toInt64 ↔ s + n = p := by
  rw [nI_l (by omega), lN_add, pk_lEQ (by omega) (by omega)]
theorem ec_subI {s n p : Nat} (hs : s < 1073741824) (hn : n ≤ 1073741824) (hp : p < 1073741824) : lN s - lN n = (nI p).toInt64 ↔ s = p + n := by
  rw [nI_l (by omega), ← pk_lEQ (a := s) (b := p + n) (by omega) (by omega), ← lN_add]
  constructor
  · intro h; rw [← h, Int64.sub_add_cancel]
  · intro h; rw [h, Int64.add_sub_cancel]
end
section
/-! ===== the relation ===== -/
/-- a place of the stack: X's word against Y's kind, start and length; a length never passes 2^30, since a merge asks that start and length meet a place below 2^30 -/
def ec_C (a : Int64) (b s : Int32) (l : Int64) : Prop :=
  ∃ k p n : Nat, k ≤ 1 ∧ p < 1073741824 ∧ n ≤ 1073741824 ∧ b = nI k ∧ s = nI p ∧ l = lN n ∧ a = lN (ec_w k p n)
def ec_A (c : Nat) (st : Nat → Int64) (kd sa : Nat → Int32) (ln : Nat → Int64) : Prop := ∀ j, j < c → ec_C (st j) (kd j) (sa j) (ln j)
/-- the relation at the head of a turn: one count, one open flag, the places below the count alike (Y leaves old groups above it) -/
def i_Rel (k : Nat) (u : SX) (v : SY) : Prop :=
  ∃ (c : Nat) (o : Int32) (st : Nat → Int64) (kd sa : Nat → Int32) (ln : Nat → Int64), u = (nI c, o, st) ∧ v = (nI c, o, kd, sa, ln) ∧ c ≤ 4 ∧ (o = 0 ∨ o = 1) ∧ ec_A c st kd sa ln
/-- both walks have one outcome, related again -/
def ec_Out (X : (Int64 → SX → Prop) → Prop) (Y : (Int64 → SY → Prop) → Prop) : Prop :=
  ∃ (r : Int64) (u : SX) (v : SY), (∀ k, i_Rel k u v) ∧ (∀ post : Int64 → SX → Prop, post r u → X post) ∧ (∀ post : Int64 → SY → Prop, post r v → Y post)
section EC
variable {c d k p s n : Nat} {o : Int32} {st : Nat → Int64} {kd sa : Nat → Int32} {ln : Nat → Int64}
theorem ec_A_push (h : ec_A c st kd sa ln) (hk : k ≤ 1) (hp : p < 1073741824) : ec_A (c + 1) (vp_updL st c (lN (ec_w k p 1))) (upd kd c (nI k)) (upd sa c (nI p)) (vp_updL ln c 1) := by
  intro j hj
  by_cases e : j = c
  · subst e
    exact ⟨k, p, 1, hk, hp, by decide, pk_us, pk_us, pk_uLs, pk_uLs⟩
  · rw [pk_uLn e, pk_un e, pk_un e, pk_uLn e]
    exact h j (by omega)
theorem ec_A_inc (h : ec_A c st kd sa ln) (hk : k ≤ 1) (hs : s < 1073741824) (hn : n + 1 ≤ 1073741824) (e1 : kd d = nI k) (e2 : sa d = nI s) : ec_A c (vp_updL st d (lN (ec_w k s (n + 1)))) kd sa (vp_updL ln d (lN (n + 1))) := by
  intro j hj
  by_cases e : j = d
  · subst e
    exact ⟨k, s, n + 1, hk, hs, hn, e1, e2, pk_uLs, pk_uLs⟩
  · rw [pk_uLn e, pk_uLn e]
    exact h j hj
theorem ec_A_pop (h : ec_A (c + 1) st kd sa ln) : ec_A c (vp_updL st c 0) kd sa ln := by
  intro j hj
  rw [pk_uLn (by omega)]
  exact h j (by omega)
/-! ===== a new group ===== -/
theorem ec_pushY {post : Int64 → SY → Prop} (hk : k ≤ 1) (hp : p < 1073741824) (hc : c < 4) (h : post (lN (ec_w k p 1)) (nI (c + 1), 1, upd kd c (nI k), upd sa c (nI p), vp_updL ln c 1)) : wY_step_142 post (nI k) (nI p) (nI c) o kd sa ln := by
  have h4 : ¬ nI c = 4 := fun e => by
    have := (nI_eq (a := c) (b := 4) (by omega) (by omega)).mp e
    omega
  have hi : vp_in (nI c) 4 := vp_in_nI hc (by decide)
  unfold wY_step_142
  rw [nI_clamp (show c < 2 ^ 31 by omega), ec_bk hk, nI_1 c]
  exact br_f h4 (nm_e ⟨hi, nm_e ⟨hi, nm_e ⟨hi, nm_e (ec_pack (n := 1) hk hp h)⟩⟩⟩)
theorem ec_pushT {post : Int64 → SX → Prop} (hp : p < 1073741824) (hc : c < 4) (h : post (lN (ec_w 0 p 1)) (nI (c + 1), 1, vp_updL st c (lN (ec_w 0 p 1)))) : wX_typed_103 post (nI p) (nI c) o st := by
  have h4 : nI c < 4 := nI_lt (b := 4) hc (by decide)
  have hi : vp_in (nI c) 4 := vp_in_nI hc (by decide)
  unfold wX_typed_103
  rw [nI_clamp (show c < 2 ^ 31 by omega), ec_newT hp, nI_1 c]
  exact br_t h4 (nm_e ⟨hi, nm_e (nm_e h)⟩)
theorem ec_pushE {post : Int64 → SX → Prop} (hp : p < 1073741824) (hc : c < 4) (h : post (lN (ec_w 1 p 1)) (nI (c + 1), 1, vp_updL st c (lN (ec_w 1 p 1)))) : wX_erased_103 post (nI p) (nI c) o st := by
  have h4 : nI c < 4 := nI_lt (b := 4) hc (by decide)
  have hi : vp_in (nI c) 4 := vp_in_nI hc (by decide)
  unfold wX_erased_103
  rw [nI_clamp (show c < 2 ^ 31 by omega), ec_newE hp, nI_1 c]
  exact br_t h4 (nm_e ⟨hi, nm_e (nm_e h)⟩)
theorem ec_outT (hA : ec_A c st kd sa ln) (hc : c ≤ 4) (ho : o = 0 ∨ o = 1) (hp : p < 1073741824) : ec_Out (fun post => wX_typed_103 post (nI p) (nI c) o st) (fun post => wY_step_142 post (nI 0) (nI p) (nI c) o kd sa ln) := by
  by_cases h4 : c < 4
  · exact ⟨lN (ec_w 0 p 1), (nI (c + 1), 1, vp_updL st c (lN (ec_w 0 p 1))), (nI (c + 1), 1, upd kd c (nI 0), upd sa c (nI p), vp_updL ln c 1),
      fun _ => ⟨c + 1, 1, _, _, _, _, rfl, rfl, h4, Or.inr rfl, ec_A_push hA (by decide) hp⟩, fun post h => ec_pushT hp h4 h, fun post h => ec_pushY (by decide) hp h4 h⟩
  · have e : c = 4 := by omega
    subst e
    exact ⟨-2, (nI 4, o, st), (nI 4, o, kd, sa, ln), fun _ => ⟨4, o, _, _, _, _, rfl, rfl, hc, ho, hA⟩, fun post h => br_f (nI_nlt (b := 4) (Nat.le_refl 4) (by decide)) h, fun post h => br_t rfl h⟩
theorem ec_outE (hA : ec_A c st kd sa ln) (hc : c ≤ 4) (ho : o = 0 ∨ o = 1) (hp : p < 1073741824) : ec_Out (fun post => wX_erased_103 post (nI p) (nI c) o st) (fun post => wY_step_142 post (nI 1) (nI p) (nI c) o kd sa ln) := by
  by_cases h4 : c < 4
  · exact ⟨lN (ec_w 1 p 1), (nI (c + 1), 1, vp_updL st c (lN (ec_w 1 p 1))), (nI (c + 1), 1, upd kd c (nI 1), upd sa c (nI p), vp_updL ln c 1),
      fun _ => ⟨c + 1, 1, _, _, _, _, rfl, rfl, h4, Or.inr rfl, ec_A_push hA (by decide) hp⟩, fun post h => ec_pushE hp h4 h, fun post h => ec_pushY (by decide) hp h4 h⟩
  · have e : c = 4 := by omega
    subst e
    exact ⟨-2, (nI 4, o, st), (nI 4, o, kd, sa, ln), fun _ => ⟨4, o, _, _, _, _, rfl, rfl, hc, ho, hA⟩, fun post h => br_f (nI_nlt (b := 4) (Nat.le_refl 4) (by decide)) h, fun post h => br_t rfl h⟩
/-! ===== the open group on top: merged or not ===== -/
theorem ec_ix (hd : d < 4) : vp_in (nI (d + 1) - 1) 4 := by
  rw [nI_pred]; exact vp_in_nI hd (by decide)
theorem ec_cl (hd : d < 4) : (nI (d + 1) - 1).toNatClampNeg = d := by
  rw [nI_pred]; exact nI_clamp (by omega)
theorem ec_one : ¬ (1 : Int32) = 0 := by decide
theorem ec_topT {post : Int64 → SX → Prop} (hd : d < 4) (h0 : ¬ nI p < 0) (hM : nI p ≤ 1073741823) (hp : p < 1073741824) (hk : k ≤ 1) (hs : s < 1073741824) (hn : n ≤ 1073741824) (e : st d = lN (ec_w k s n))
    (a : k = 0 ∧ s + n = p → post (lN (ec_w k s (n + 1))) (nI (d + 1), 1, vp_updL st d (lN (ec_w k s (n + 1)))))
    (b : ¬ (k = 0 ∧ s + n = p) → wX_typed_103 post (nI p) (nI (d + 1)) 1 st) : wpX_typed post (nI (d + 1), 1, st) (nI p) := by
  have hi := ec_ix hd
  have hz : ¬ nI (d + 1) ≤ 0 := nI_nle (by omega) (by omega)
  unfold wpX_typed
  dsimp only
  rw [ec_cl hd, e]
  refine br_f h0 (br_t hM (br_f ec_one (br_f hz ⟨hi, nm_e (nm_r (ec_kind hk hs hn) (nm_r (ec_start hk hs hn) (nm_r (ec_len hk hs hn) (br_c (fun q1 => br_c (fun q2 => nm_r (ec_w_1 k s n) ⟨hi, nm_e (a ?_)⟩) (fun q2 => b ?_)) (fun q1 => b ?_)))))⟩)))
  · exact ⟨(pk_lEQ (b := 0) (by omega) (by decide)).mp q1, (ec_addI hs hn hp).mp q2⟩
  · exact fun h => q2 ((ec_addI hs hn hp).mpr h.2)
  · exact fun h => q1 (congrArg lN h.1)
theorem ec_topE {post : Int64 → SX → Prop} (hd : d < 4) (h0 : ¬ nI p < 0) (hM : nI p ≤ 1073741823) (hp : p < 1073741824) (hk : k ≤ 1) (hs : s < 1073741824) (hn : n ≤ 1073741824) (e : st d = lN (ec_w k s n))
    (a : k = 1 ∧ s = p + n → post (lN (ec_w k s (n + 1))) (nI (d + 1), 1, vp_updL st d (lN (ec_w k s (n + 1)))))
    (b : ¬ (k = 1 ∧ s = p + n) → wX_erased_103 post (nI p) (nI (d + 1)) 1 st) : wpX_erased post (nI (d + 1), 1, st) (nI p) := by
  have hi := ec_ix hd
  have hz : ¬ nI (d + 1) ≤ 0 := nI_nle (by omega) (by omega)
  unfold wpX_erased
  dsimp only
  rw [ec_cl hd, e]
  refine br_f h0 (br_t hM (br_f ec_one (br_f hz ⟨hi, nm_e (nm_r (ec_kind hk hs hn) (nm_r (ec_start hk hs hn) (nm_r (ec_len hk hs hn) (br_c (fun q1 => br_c (fun q2 => nm_r (ec_w_1 k s n) ⟨hi, nm_e (a ?_)⟩) (fun q2 => b ?_)) (fun q1 => b ?_)))))⟩)))
  · exact ⟨(pk_lEQ (b := 1) (by omega) (by decide)).mp q1, (ec_subI hs hn hp).mp q2⟩
  · exact fun h => q2 ((ec_subI hs hn hp).mpr h.2)
  · exact fun h => q1 (congrArg lN h.1)
theorem ec_98 {post : Int64 → SY → Prop} {z0 : Int64} {C : Prop} (hd : d < 4) (hk : k ≤ 1) (hs : s < 1073741824) (hz : z0 = (nI p).toInt64 ↔ C) (e2 : sa d = nI s) (e3 : ln d = lN n)
    (a : C → post (lN (ec_w k s (n + 1))) (nI (d + 1), 1, kd, sa, vp_updL ln d (lN (n + 1))))
    (b : ¬ C → wY_step_142 post (nI k) (nI p) (nI (d + 1)) 1 kd sa ln) : wY_step_98 post (nI k) (nI p) z0 (nI (d + 1)) 1 kd sa ln := by
  have hi := ec_ix hd
  unfold wY_step_98
  rw [ec_cl hd, e2, e3, lN_1 n]
  exact br_c (fun q => ⟨hi, hi, nm_e (nm_e ⟨hi, ec_pack hk hs (a (hz.mp q))⟩)⟩) (fun q => b fun z => q (hz.mpr z))
theorem ec_topYT {post : Int64 → SY → Prop} (hd : d < 4) (h0 : ¬ nI p < 0) (hM : nI p ≤ 1073741823) (hp : p < 1073741824) (hk : k ≤ 1) (hs : s < 1073741824) (hn : n ≤ 1073741824) (e1 : kd d = nI k) (e2 : sa d = nI s) (e3 : ln d = lN n)
    (a : k = 0 ∧ s + n = p → post (lN (ec_w k s (n + 1))) (nI (d + 1), 1, kd, sa, vp_updL ln d (lN (n + 1))))
    (b : ¬ (k = 0 ∧ s + n = p) → wY_step_142 post (nI 0) (nI p) (nI (d + 1)) 1 kd sa ln) : wpY_step post (nI (d + 1), 1, kd, sa, ln) (nI 0) (nI p) := by
  have hi := ec_ix hd
  have hz : ¬ nI (d + 1) ≤ 0 := nI_nle (by omega) (by omega)
  unfold wpY_step
  dsimp only
  rw [ec_cl hd, e1, e2, e3]
  refine br_f h0 (br_t hM (br_f ec_one (br_f hz ⟨hi, br_c (fun q1 => br_t rfl ⟨hi, hi, ?_⟩) (fun q1 => b fun h => q1 (congrArg nI h.1))⟩)))
  have hk0 : k = 0 := (nI_eq (by omega) (by decide)).mp q1
  subst hk0
  refine ec_98 (C := s + n = p) hd hk hs ?_ e2 e3 (fun q => a ⟨rfl, q⟩) (fun q => b fun h => q h.2)
  rw [nI_l (n := s) (by omega)]
  exact ec_addI hs hn hp
theorem ec_topYE {post : Int64 → SY → Prop} (hd : d < 4) (h0 : ¬ nI p < 0) (hM : nI p ≤ 1073741823) (hp : p < 1073741824) (hk : k ≤ 1) (hs : s < 1073741824) (hn : n ≤ 1073741824) (e1 : kd d = nI k) (e2 : sa d = nI s) (e3 : ln d = lN n)
    (a : k = 1 ∧ s = p + n → post (lN (ec_w k s (n + 1))) (nI (d + 1), 1, kd, sa, vp_updL ln d (lN (n + 1))))
    (b : ¬ (k = 1 ∧ s = p + n) → wY_step_142 post (nI 1) (nI p) (nI (d + 1)) 1 kd sa ln) : wpY_step post (nI (d + 1), 1, kd, sa, ln) (nI 1) (nI p) := by
  have hi := ec_ix hd
  have hz : ¬ nI (d + 1) ≤ 0 := nI_nle (by omega) (by omega)
  unfold wpY_step
  dsimp only
  rw [ec_cl hd, e1, e2, e3]
  refine br_f h0 (br_t hM (br_f ec_one (br_f hz ⟨hi, br_c (fun q1 => br_f ec_one ⟨hi, hi, ?_⟩) (fun q1 => b fun h => q1 (congrArg nI h.1))⟩)))
  have hk1 : k = 1 := (nI_eq (by omega) (by decide)).mp q1
  subst hk1
  refine ec_98 (C := s = p + n) hd hk hs ?_ e2 e3 (fun q => a ⟨rfl, q⟩) (fun q => b fun h => q h.2)
  rw [nI_l (n := s) (by omega)]
  exact ec_subI hs hn hp
/-! ===== the two methods that write ===== -/
theorem ec_stepT (hA : ec_A c st kd sa ln) (hc : c ≤ 4) (ho : o = 0 ∨ o = 1) (v1 : Int32) : ec_Out (fun post => wpX_typed post (nI c, o, st) v1) (fun post => wpY_step post (nI c, o, kd, sa, ln) (nI 0) v1) := by
  have hR : ∀ k, i_Rel k (nI c, o, st) (nI c, o, kd, sa, ln) := fun _ => ⟨c, o, _, _, _, _, rfl, rfl, hc, ho, hA⟩
  by_cases h0 : v1 < 0
  · exact ⟨-1, _, _, hR, fun post h => br_t h0 h, fun post h => br_t h0 h⟩
  by_cases hM : v1 ≤ 1073741823
  · obtain ⟨p, hp', rfl⟩ := nI_of2 (n := 1073741823) (by decide) h0 hM
    have hp : p < 1073741824 := by omega
    obtain ⟨r, u, v, hQ, hX, hY⟩ := ec_outT hA hc ho hp
    rcases ho with rfl | rfl
    · exact ⟨r, u, v, hQ, fun post h => br_f h0 (br_t hM (br_t rfl (hX post h))), fun post h => br_f h0 (br_t hM (br_t rfl (hY post h)))⟩
    · cases c with
      | zero =>
        have hz : nI 0 ≤ 0 := by decide
        exact ⟨r, u, v, hQ, fun post h => br_f h0 (br_t hM (br_f ec_one (br_t hz (hX post h)))), fun post h => br_f h0 (br_t hM (br_f ec_one (br_t hz (hY post h))))⟩
      | succ d =>
        have hd : d < 4 := hc
        obtain ⟨k, s, n, hk, hs, hn, e1, e2, e3, e4⟩ := hA d (Nat.lt_succ_self d)
        by_cases hC : k = 0 ∧ s + n = p
        · exact ⟨lN (ec_w k s (n + 1)), (nI (d + 1), 1, vp_updL st d (lN (ec_w k s (n + 1)))), (nI (d + 1), 1, kd, sa, vp_updL ln d (lN (n + 1))),
            fun _ => ⟨d + 1, 1, _, _, _, _, rfl, rfl, hc, Or.inr rfl, ec_A_inc hA hk hs (by omega) e1 e2⟩,
            fun post h => ec_topT hd h0 hM hp hk hs hn e4 (fun _ => h) (fun q => absurd hC q), fun post h => ec_topYT hd h0 hM hp hk hs hn e1 e2 e3 (fun _ => h) (fun q => absurd hC q)⟩
        · exact ⟨r, u, v, hQ, fun post h => ec_topT hd h0 hM hp hk hs hn e4 (fun q => absurd q hC) (fun _ => hX post h), fun post h => ec_topYT hd h0 hM hp hk hs hn e1 e2 e3 (fun q => absurd q hC) (fun _ => hY post h)⟩
  · exact ⟨-1, _, _, hR, fun post h => br_f h0 (br_f hM h), fun post h => br_f h0 (br_f hM h)⟩
theorem ec_stepE (hA : ec_A c st kd sa ln) (hc : c ≤ 4) (ho : o = 0 ∨ o = 1) (v1 : Int32) : ec_Out (fun post => wpX_erased post (nI c, o, st) v1) (fun post => wpY_step post (nI c, o, kd, sa, ln) (nI 1) v1) := by
  have hR : ∀ k, i_Rel k (nI c, o, st) (nI c, o, kd, sa, ln) := fun _ => ⟨c, o, _, _, _, _, rfl, rfl, hc, ho, hA⟩
  by_cases h0 : v1 < 0
  · exact ⟨-1, _, _, hR, fun post h => br_t h0 h, fun post h => br_t h0 h⟩
  by_cases hM : v1 ≤ 1073741823
  · obtain ⟨p, hp', rfl⟩ := nI_of2 (n := 1073741823) (by decide) h0 hM
    have hp : p < 1073741824 := by omega
    obtain ⟨r, u, v, hQ, hX, hY⟩ := ec_outE hA hc ho hp
    rcases ho with rfl | rfl
    · exact ⟨r, u, v, hQ, fun post h => br_f h0 (br_t hM (br_t rfl (hX post h))), fun post h => br_f h0 (br_t hM (br_t rfl (hY post h)))⟩
    · cases c with
      | zero =>
        have hz : nI 0 ≤ 0 := by decide
        exact ⟨r, u, v, hQ, fun post h => br_f h0 (br_t hM (br_f ec_one (br_t hz (hX post h)))), fun post h => br_f h0 (br_t hM (br_f ec_one (br_t hz (hY post h))))⟩
      | succ d =>
        have hd : d < 4 := hc
        obtain ⟨k, s, n, hk, hs, hn, e1, e2, e3, e4⟩ := hA d (Nat.lt_succ_self d)
        by_cases hC : k = 1 ∧ s = p + n
        · exact ⟨lN (ec_w k s (n + 1)), (nI (d + 1), 1, vp_updL st d (lN (ec_w k s (n + 1)))), (nI (d + 1), 1, kd, sa, vp_updL ln d (lN (n + 1))),
            fun _ => ⟨d + 1, 1, _, _, _, _, rfl, rfl, hc, Or.inr rfl, ec_A_inc hA hk hs (by omega) e1 e2⟩,
            fun post h => ec_topE hd h0 hM hp hk hs hn e4 (fun _ => h) (fun q => absurd hC q), fun post h => ec_topYE hd h0 hM hp hk hs hn e1 e2 e3 (fun _ => h) (fun q => absurd hC q)⟩
        · exact ⟨r, u, v, hQ, fun post h => ec_topE hd h0 hM hp hk hs hn e4 (fun q => absurd q hC) (fun _ => hX post h), fun post h => ec_topYE hd h0 hM hp hk hs hn e1 e2 e3 (fun q => absurd q hC) (fun _ => hY post h)⟩
  · exact ⟨-1, _, _, hR, fun post h => br_f h0 (br_f hM h), fun post h => br_f h0 (br_f hM h)⟩
end EC
end
section
/-! ===== what is owed ===== -/
theorem i_up {k : Nat} {u : SX} {v : SY} (h : i_Rel k u v) : i_Rel (k + 2) u v := h
theorem i_vc0 : wpX_init (fun u => wpY_init (fun v => i_Rel 0 u v)) :=
  ⟨0, 0, fun _ => 0, fun _ => 0, fun _ => 0, fun _ => 0, rfl, rfl, by decide, Or.inl rfl, fun j hj => absurd hj (Nat.not_lt_zero j)⟩
theorem i_vc_typed {k : Nat} {u : SX} {v : SY} (I : i_Rel k u v) (hk : k + 2 ≤ 1024) (v1 : Int32) : wpX_typed (fun r u' => wpY_typed (fun r' v' => r' = r ∧ i_Rel (k + 2) u' v') v v1) u v1 := by
  obtain ⟨c, o, st, kd, sa, ln, rfl, rfl, hc, ho, hA⟩ := I
  obtain ⟨r, u, ⟨y1, y2, y3, y4, y5⟩, hR, hX, hY⟩ := ec_stepT hA hc ho v1
  refine hX _ ?_
  unfold wpY_typed
  dsimp only
  exact hY _ ⟨rfl, hR _⟩
theorem i_vc_erased {k : Nat} {u : SX} {v : SY} (I : i_Rel k u v) (hk : k + 2 ≤ 1024) (v1 : Int32) : wpX_erased (fun r u' => wpY_erased (fun r' v' => r' = r ∧ i_Rel (k + 2) u' v') v v1) u v1 := by
  obtain ⟨c, o, st, kd, sa, ln, rfl, rfl, hc, ho, hA⟩ := I
  obtain ⟨r, u, ⟨y1, y2, y3, y4, y5⟩, hR, hX, hY⟩ := ec_stepE hA hc ho v1
  refine hX _ ?_
  unfold wpY_erased
  dsimp only
  exact hY _ ⟨rfl, hR _⟩
theorem i_vc_seal {k : Nat} {u : SX} {v : SY} (I : i_Rel k u v) (hk : k + 2 ≤ 1024) : wpX_seal (fun r u' => wpY_seal (fun r' v' => r' = r ∧ i_Rel (k + 2) u' v') v) u := by
  obtain ⟨c, o, st, kd, sa, ln, rfl, rfl, hc, ho, hA⟩ := I
  have hb : narrow .boolean (.int o) = .int o := by rcases ho with rfl | rfl <;> rfl
  exact ⟨hb, hb, rfl, c, 0, st, kd, sa, ln, rfl, rfl, hc, Or.inl rfl, hA⟩
theorem i_vc_popGroup {k : Nat} {u : SX} {v : SY} (I : i_Rel k u v) (hk : k + 2 ≤ 1024) : wpX_popGroup (fun r u' => wpY_popGroup (fun r' v' => r' = r ∧ i_Rel (k + 2) u' v') v) u := by
  obtain ⟨c, o, st, kd, sa, ln, rfl, rfl, hc, ho, hA⟩ := I
  cases c with
  | zero => exact br_t rfl (br_t rfl ⟨rfl, 0, o, st, kd, sa, ln, rfl, rfl, hc, ho, hA⟩)
  | succ d =>
    have hz : ¬ nI (d + 1) = 0 := nI_ne0 (by omega) (by omega)
    have hi : vp_in (nI d) 4 := vp_in_nI hc (by decide)
    have hcl : (nI d).toNatClampNeg = d := nI_clamp (by omega)
    obtain ⟨q, s, n, hq, hs, hn, e1, e2, e3, e4⟩ := hA d (Nat.lt_succ_self d)
    unfold wpX_popGroup wpY_popGroup
    dsimp only
    refine br_f hz (nm_r (nI_pred d) ⟨hi, nm_r (e' := lN (ec_w q s n)) (by rw [hcl]; exact e4) ⟨hi, nm_r (e' := vp_updL st d 0) (by rw [hcl]) (br_f hz (nm_r (nI_pred d) (nm_r (nI_pred d) ⟨hi, hi, hi, ?_⟩)))⟩⟩)
    rw [hcl, e1, e2, e3]
    exact ec_pack hq hs ⟨rfl, d, 0, _, kd, sa, ln, rfl, rfl, by omega, Or.inl rfl, ec_A_pop hA⟩
theorem i_vc_group {k : Nat} {u : SX} {v : SY} (I : i_Rel k u v) (hk : k + 2 ≤ 1024) (v1 : Int32) : wpX_group (fun r => wpY_group (fun r' => r' = r ∧ i_Rel (k + 2) u v) v v1) u v1 := by
  have I' : i_Rel (k + 2) u v := I
  obtain ⟨c, o, st, kd, sa, ln, rfl, rfl, hc, ho, hA⟩ := I
  by_cases h0 : v1 < 0
  · exact br_t h0 (br_t h0 ⟨rfl, I'⟩)
  obtain ⟨j, hj, rfl⟩ := nI_of h0
  by_cases h : j < c
  · have hi : vp_in (nI j) 4 := vp_in_nI (by omega) (by decide)
    have hcl : (nI j).toNatClampNeg = j := nI_clamp (by omega)
    obtain ⟨q, s, n, hq, hs, hn, e1, e2, e3, e4⟩ := hA j h
    unfold wpX_group wpY_group
    dsimp only
    rw [hcl, e1, e2, e3, e4]
    exact br_f h0 (br_f (nI_ge h (by omega)) ⟨hi, br_f h0 (br_t (nI_lt h (by omega)) ⟨hi, hi, hi, ec_pack hq hs ⟨rfl, I'⟩⟩)⟩)
  · exact br_f h0 (br_t (nI_le (by omega) hj) (br_f h0 (br_f (nI_nlt (by omega) hj) ⟨rfl, I'⟩)))
end
