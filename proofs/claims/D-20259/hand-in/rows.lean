section
theorem wb_tb (n : Nat) : (lN n).toBitVec = BitVec.ofNat 64 n := rfl
theorem wb_inj {a b : Int64} (h : a.toBitVec = b.toBitVec) : a = b := Int64.toBitVec_inj.mp h
theorem wb_tn {n : Nat} (h : n < 2 ^ 64) : (lN n).toBitVec.toNat = n := by rw [wb_tb, BitVec.toNat_ofNat, Nat.mod_eq_of_lt h]
theorem wb_of (x : Int64) : ∃ n, n < 2 ^ 64 ∧ x = lN n := ⟨x.toBitVec.toNat, x.toBitVec.isLt, wb_inj (by rw [wb_tb]; simp)⟩
theorem wb_of32 (x : Int32) : ∃ n, n < 2 ^ 32 ∧ x = nI n := ⟨x.toBitVec.toNat, x.toBitVec.isLt, Int32.toBitVec_inj.mp (by show _ = BitVec.ofNat 32 _; simp)⟩
theorem wb_c : ∀ k, k < 64 → ((nI k).toInt64 &&& 63) = lN k := by decide +kernel
theorem wb_cu : ∀ k, k < 64 → ((nI k).toInt64.toUInt64 &&& Int64.toUInt64 63) = UInt64.ofNat k := by decide +kernel
theorem wb_sm : ∀ k, k < 64 → (BitVec.ofNat 64 k).smod 64 = BitVec.ofNat 64 k := by decide +kernel
theorem wb_pw {a b : Nat} (h : a ≤ b) : 2 ^ b = 2 ^ a * 2 ^ (b - a) := by rw [← Nat.pow_add]; congr 1; omega
theorem wb_lt2 {a b : Nat} (h : a < b) : 2 ^ a < 2 ^ b := Nat.pow_lt_pow_right (by decide) h
theorem wb_mod (n : Nat) : lN n = lN (n % 2 ^ 64) := wb_inj (by rw [wb_tb, wb_tb]; apply BitVec.eq_of_toNat_eq; rw [BitVec.toNat_ofNat, BitVec.toNat_ofNat, Nat.mod_mod])
theorem wb_shr {n k : Nat} (hn : n < 2 ^ 64) (hk : k < 64) : ((lN n).toUInt64 >>> ((nI k).toInt64.toUInt64 &&& Int64.toUInt64 63)).toInt64 = lN (n / 2 ^ k) := by
  rw [wb_cu k hk]
  apply wb_inj
  apply BitVec.eq_of_toNat_eq
  show ((lN n).toUInt64 >>> UInt64.ofNat k).toNat = (BitVec.ofNat 64 _).toNat
  have h1 : (UInt64.ofNat k).toNat = k := by
    show (BitVec.ofNat 64 k).toNat = k
    rw [BitVec.toNat_ofNat, Nat.mod_eq_of_lt (by omega)]
  have h2 : (lN n).toUInt64.toNat = n := wb_tn hn
  rw [UInt64.toNat_shiftRight, h1, h2, Nat.mod_eq_of_lt hk, Nat.shiftRight_eq_div_pow, BitVec.toNat_ofNat, Nat.mod_eq_of_lt (Nat.lt_of_le_of_lt (Nat.div_le_self _ _) hn)]
/-- bytes: the signed shift by at most 56 places under the mask 255 -/
theorem bm_bv (x : BitVec 64) (s : Nat) (hs : s ≤ 56) : x.sshiftRight s &&& 255#64 = BitVec.ofNat 64 (x.toNat / 2 ^ s % 256) := by
  have h1 : x.sshiftRight s &&& 255#64 = (x >>> s) &&& 255#64 := by
    apply BitVec.eq_of_getLsbD_eq
    intro i hi
    rw [BitVec.getLsbD_and, BitVec.getLsbD_and, BitVec.getLsbD_sshiftRight, BitVec.getLsbD_ushiftRight]
    by_cases h : i < 8
    · rw [if_pos (by omega)]
      simp [show ¬ 64 ≤ i by omega]
    · have h2 : (255#64).getLsbD i = false := by
        show Nat.testBit 255 i = false
        exact Nat.testBit_lt_two_pow (Nat.lt_of_lt_of_le (show 255 < 2 ^ 8 by decide) (Nat.pow_le_pow_right (by decide) (by omega)))
      rw [h2, Bool.and_false, Bool.and_false]
  rw [h1]
  apply BitVec.eq_of_toNat_eq
  rw [BitVec.toNat_and, BitVec.toNat_ushiftRight, Nat.shiftRight_eq_div_pow, BitVec.toNat_ofNat, BitVec.toNat_ofNat]
  generalize x.toNat / 2 ^ s = q
  have h3 : q &&& 255 % 2 ^ 64 = q % 256 := Nat.and_two_pow_sub_one_eq_mod q 8
  rw [h3]
  omega
theorem bm_byte {V i : Nat} (hV : V < 2 ^ 64) (hi : i < 8) : (lN V >>> ((8 * nI i).toInt64 &&& 63)) &&& 255 = lN (V / 2 ^ (8 * i) % 256) := by
  have e : (8 : Int32) * nI i = nI (8 * i) := pk_mul 8 i
  rw [e, wb_c (8 * i) (by omega)]
  apply wb_inj
  rw [Int64.toBitVec_and, Int64.toBitVec_shiftRight, wb_tb, wb_tb, wb_tb, wb_sm (8 * i) (by omega), BitVec.sshiftRight_eq', BitVec.toNat_ofNat, Nat.mod_eq_of_lt (show 8 * i < 2 ^ 64 by omega)]
  have h := bm_bv (BitVec.ofNat 64 V) (8 * i) (by omega)
  rw [BitVec.toNat_ofNat, Nat.mod_eq_of_lt hV] at h
  exact h
/-- b is the place of the highest one of X -/
def bm_T (X b : Nat) : Prop := 2 ^ b ≤ X ∧ X < 2 ^ (b + 1)
theorem bm_Tdiv {X b : Nat} (k : Nat) (hk : k ≤ b) (h : bm_T X b) : bm_T (X / 2 ^ k) (b - k) := by
  obtain ⟨c, rfl⟩ : ∃ c, b = c + k := ⟨b - k, by omega⟩
  rw [Nat.add_sub_cancel]
  obtain ⟨h1, h2⟩ := h
  constructor
  · rw [Nat.le_div_iff_mul_le (Nat.two_pow_pos k), ← Nat.pow_add]
    exact h1
  · rw [Nat.div_lt_iff_lt_mul (Nat.two_pow_pos k), ← Nat.pow_add, show c + 1 + k = c + k + 1 by omega]
    exact h2
theorem bm_Tmul {X b : Nat} (k : Nat) (h : bm_T (X / 2 ^ k) b) : bm_T X (b + k) := by
  obtain ⟨h1, h2⟩ := h
  rw [Nat.le_div_iff_mul_le (Nat.two_pow_pos k), ← Nat.pow_add] at h1
  rw [Nat.div_lt_iff_lt_mul (Nat.two_pow_pos k), ← Nat.pow_add, show b + 1 + k = b + k + 1 by omega] at h2
  exact ⟨h1, h2⟩
theorem bm_Tlt {X b k : Nat} (h : bm_T X b) (hX : X < 2 ^ k) : b < k :=
  (Nat.pow_lt_pow_iff_right (show 1 < 2 by decide)).mp (Nat.lt_of_le_of_lt h.1 hX)
theorem bm_Tge {X b k : Nat} (h : bm_T X b) (hX : 2 ^ k ≤ X) : k ≤ b :=
  Nat.le_of_lt_succ ((Nat.pow_lt_pow_iff_right (show 1 < 2 by decide)).mp (Nat.lt_of_le_of_lt hX h.2))
theorem bm_Tex (X : Nat) (h : 0 < X) : ∃ b, bm_T X b := ⟨X.log2, Nat.log2_self_le (by omega), Nat.lt_log2_self⟩
theorem bm_T2 {X b : Nat} (h : bm_T X b) (hX : X < 4) : X / 2 ^ 1 = b := by
  have hb : b < 2 := bm_Tlt (k := 2) h hX
  obtain ⟨h1, h2⟩ := h
  have hc : b = 0 ∨ b = 1 := by omega
  rcases hc with e | e
  · subst e
    have h3 : 1 ≤ X := h1
    have h4 : X < 2 := h2
    omega
  · subst e
    have h3 : 2 ≤ X := h1
    omega
theorem bm_sub {n k : Nat} (h : k ≤ n) : nI n + -(nI k) = nI (n - k) := by
  rw [← Int32.sub_eq_add_neg, pk_sub h]
theorem bm_0 {X : Nat} (hX : X < 2 ^ 32) : nI X = 0 ↔ X = 0 := by
  constructor
  · intro e
    exact (pk_tn hX).symm.trans (congrArg (fun t : Int32 => t.toBitVec.toNat) e)
  · intro e
    subst e
    exact nI_0
theorem bm_neg {X : Nat} (hX : X < 2 ^ 32) (h : 2 ^ 31 ≤ X) : ¬ (0 : Int32) < nI X := by
  have ht : (nI X).toInt = (X : Int) - 4294967296 := by
    show (nI X).toBitVec.toInt = _
    rw [BitVec.toInt_eq_toNat_cond, pk_tn hX, if_neg (by omega)]
    first | rfl | omega
  have h0 : (0 : Int32).toInt = 0 := by decide
  rw [Int32.lt_iff_toInt_lt, ht, h0]
  omega
end
section
theorem bm_61 {post : Int32 → Prop} {X b n : Nat} (h : bm_T X b) (hX : X < 16) (hb : b ≤ n) (hn : n ≤ 31) (hp : post (nI (n - b))) :
    wJ6_numberOfLeadingZeros_0f7a4_565d2_61 post (nI X) (nI n) := by
  unfold wJ6_numberOfLeadingZeros_0f7a4_565d2_61
  refine pk_lt X 4 (fun z => ?_) (fun z => ?_)
  · rw [pk_ushrN (by omega) 1 1 (by decide), bm_T2 h z, pk_sub hb]
    exact hp
  · have hb2 : 2 ≤ b := bm_Tge (k := 2) h z
    refine nm_r (bm_sub (k := 2) (show 2 ≤ n by omega)) (nm_r (pk_ushrN (show X < 2 ^ 32 by omega) 2 2 (by decide)) ?_)
    rw [pk_ushrN (by omega) 1 1 (by decide), bm_T2 (bm_Tdiv 2 hb2 h) (by omega), pk_sub (by omega), show n - 2 - (b - 2) = n - b by omega]
    exact hp
theorem bm_48 {post : Int32 → Prop} {X b n : Nat} (h : bm_T X b) (hX : X < 256) (hb : b ≤ n) (hn : n ≤ 31) (hp : post (nI (n - b))) :
    wJ6_numberOfLeadingZeros_0f7a4_565d2_48 post (nI X) (nI n) := by
  unfold wJ6_numberOfLeadingZeros_0f7a4_565d2_48
  refine pk_lt X 16 (fun z => bm_61 h z hb hn hp) (fun z => ?_)
  have hb2 : 4 ≤ b := bm_Tge (k := 4) h z
  refine nm_r (bm_sub (k := 4) (show 4 ≤ n by omega)) (nm_r (pk_ushrN (show X < 2 ^ 32 by omega) 4 4 (by decide)) ?_)
  refine bm_61 (bm_Tdiv 4 hb2 h) (by omega) (by omega) (by omega) ?_
  rw [show n - 4 - (b - 4) = n - b by omega]
  exact hp
theorem bm_33 {post : Int32 → Prop} {X b n : Nat} (h : bm_T X b) (hX : X < 65536) (hb : b ≤ n) (hn : n ≤ 31) (hp : post (nI (n - b))) :
    wJ6_numberOfLeadingZeros_0f7a4_565d2_33 post (nI X) (nI n) := by
  unfold wJ6_numberOfLeadingZeros_0f7a4_565d2_33
  refine pk_lt X 256 (fun z => bm_48 h z hb hn hp) (fun z => ?_)
  have hb2 : 8 ≤ b := bm_Tge (k := 8) h z
  refine nm_r (bm_sub (k := 8) (show 8 ≤ n by omega)) (nm_r (pk_ushrN (show X < 2 ^ 32 by omega) 8 8 (by decide)) ?_)
  refine bm_48 (bm_Tdiv 8 hb2 h) (by omega) (by omega) (by omega) ?_
  rw [show n - 8 - (b - 8) = n - b by omega]
  exact hp
theorem bm_J6 {post : Int32 → Prop} {X : Nat} (hX : X < 2 ^ 32) (h0 : X = 0 → post (nI 32)) (h1 : ∀ b, b < 32 → bm_T X b → post (nI (31 - b))) :
    wpJ6_numberOfLeadingZeros_0f7a4_565d2 post () (nI X) := by
  unfold wpJ6_numberOfLeadingZeros_0f7a4_565d2
  by_cases hs : X < 2 ^ 31
  · refine pk_lt 0 X (fun z => ?_) (fun z => ?_)
    · obtain ⟨b, hb⟩ := bm_Tex X z
      have hb31 : b < 31 := bm_Tlt hb hs
      have hp := h1 b (by omega) hb
      refine pk_lt X 65536 (fun z2 => bm_33 (n := 31) hb z2 (by omega) (by omega) hp) (fun z2 => ?_)
      have hb16 : 16 ≤ b := bm_Tge (k := 16) hb z2
      refine nm_r (e' := nI 15) (bm_sub (n := 31) (k := 16) (by decide)) (nm_r (pk_ushrN hX 16 16 (by decide)) ?_)
      refine bm_33 (bm_Tdiv 16 hb16 hb) (by omega) (by omega) (by omega) ?_
      rw [show 15 - (b - 16) = 31 - b by omega]
      exact hp
    · have e : X = 0 := by omega
      exact pk_eq X 0 (fun _ => h0 e) (fun z2 => absurd e z2)
  · have hg : 2 ^ 31 ≤ X := Nat.le_of_not_lt hs
    refine br_f (bm_neg hX hg) (br_f (fun e => ?_) ?_)
    · have e2 := (bm_0 hX).mp e
      omega
    · exact h1 31 (by decide) ⟨hg, hX⟩
theorem bm_J13 {post : Int32 → Prop} {V : Nat} (hV : V < 2 ^ 64) (h0 : V = 0 → post (nI 64)) (h1 : ∀ b, b < 64 → bm_T V b → post (nI (63 - b))) :
    wpJ13_numberOfLeadingZeros_95d88_565d2 post () (lN V) := by
  unfold wpJ13_numberOfLeadingZeros_95d88_565d2
  have hq : V / 2 ^ 32 < 2 ^ 32 := by omega
  refine nm_r (e' := nI (V / 2 ^ 32)) ((congrArg Int64.toInt32 (wb_shr (k := 32) hV (by decide))).trans (lN_i _)) ?_
  refine ek_if (bm_0 hq) (fun z => ?_) (fun z => ?_)
  · have hl : V < 2 ^ 32 := by omega
    rw [lN_i V]
    refine bm_J6 hl (fun y => ?_) (fun b hb hT => ?_)
    · exact ek_v (P := post) (nI_add 32 32) (h0 y)
    · exact ek_v (P := post) ((nI_add 32 (31 - b)).trans (congrArg nI (show 32 + (31 - b) = 63 - b by omega))) (h1 b (by omega) hT)
  · refine bm_J6 hq (fun y => absurd y z) (fun b hb hT => ?_)
    exact ek_v (P := post) (congrArg nI (show 31 - b = 63 - (b + 32) by omega)) (h1 (b + 32) (by omega) (bm_Tmul 32 hT))
theorem bm_X0 {post : Int32 → Prop} {V : Nat} (hV : V < 2 ^ 64) (h0 : V = 0 → post (nI 1)) (h1 : ∀ b, b < 64 → bm_T V b → post (nI (b / 8 + 1))) :
    wpX0_bytesNeeded post () (lN V) := by
  unfold wpX0_bytesNeeded
  refine bm_J13 hV (fun y => ?_) (fun b hb hT => ?_)
  · exact nm_r (e' := nI 0) (pk_sub (a := 64) (b := 64) (Nat.le_refl _)) (pk_eq 0 0 (fun _ => h0 y) (fun z => absurd rfl z))
  · refine nm_r (e' := nI (b + 1)) ((pk_sub (a := 64) (b := 63 - b) (by omega)).trans (congrArg nI (show 64 - (63 - b) = b + 1 by omega))) ?_
    refine pk_eq (b + 1) 0 (fun z => absurd z (by omega)) (fun z => ⟨by decide, ?_⟩)
    have e : (nI (b + 1) + nI 7) / nI 8 = nI (b / 8 + 1) := by
      rw [nI_add, pk_div (by omega) (by decide) (by decide)]
      exact congrArg nI (by omega)
    exact ek_v (P := post) e (h1 b hb hT)
theorem bm_X1 {post : Int32 → Prop} {V : Nat} (hV : V < 2 ^ 64) (H : ∀ c, 1 ≤ c → c ≤ 8 → V < 2 ^ (8 * c) → (c = 1 ∨ 2 ^ (8 * (c - 1)) ≤ V) → post (nI c)) :
    wpX1_bytesNeeded post () (lN V) := by
  unfold wpX1_bytesNeeded
  refine pk_loop (fun n i s => wX1_bytesNeeded_4 post (lN V) n s (nI i)) (fun i s => ∃ c, s = nI c ∧ 1 ≤ c ∧ c ≤ i ∧ V % 2 ^ (8 * i) < 2 ^ (8 * c) ∧ (c = 1 ∨ 2 ^ (8 * (c - 1)) ≤ V % 2 ^ (8 * i))) 8 1 1 (by decide) ⟨1, rfl, by decide, by decide, Nat.mod_lt _ (Nat.two_pow_pos _), Or.inl rfl⟩ ?_ ?_
  · intro n s hI
    obtain ⟨c, hs, k1, k2, k3, k4⟩ := hI
    subst hs
    rw [Nat.mod_eq_of_lt (show V < 2 ^ (8 * 8) from hV)] at k3 k4
    exact pk_le 8 8 (fun _ => H c k1 k2 k3 k4) (fun z => absurd z (by omega))
  · intro n i s hi hI hw
    obtain ⟨c, hs, k1, k2, k3, k4⟩ := hI
    subst hs
    have hm : V % 2 ^ (8 * (i + 1)) = V % 2 ^ (8 * i) + 2 ^ (8 * i) * (V / 2 ^ (8 * i) % 256) := by
      rw [show 8 * (i + 1) = 8 * i + 8 by omega, Nat.pow_add]
      exact Nat.mod_mul
    have hq : V / 2 ^ (8 * i) % 256 < 256 := Nat.mod_lt _ (by decide)
    refine pk_le 8 i (fun z => absurd z (by omega)) (fun _ => nm_r (bm_byte hV hi) ?_)
    refine ek_if (pk_lEQ (a := V / 2 ^ (8 * i) % 256) (b := 0) (Nat.lt_trans hq (by decide)) (by decide)) (fun z => nm_r (nI_1 i) (hw _ ⟨c, rfl, k1, by omega, ?_, ?_⟩)) (fun z => nm_r (nI_1 i) (nm_r (nI_1 i) (hw _ ⟨i + 1, rfl, by omega, Nat.le_refl _, Nat.mod_lt _ (Nat.two_pow_pos _), Or.inr ?_⟩)))
    · rw [hm, z, Nat.mul_zero, Nat.add_zero]
      exact k3
    · rw [hm, z, Nat.mul_zero, Nat.add_zero]
      exact k4
    · rw [hm, Nat.add_sub_cancel]
      exact Nat.le_trans (Nat.le_mul_of_pos_right _ (Nat.pos_of_ne_zero z)) (Nat.le_add_left _ _)
end
section
theorem bm_law {post : Int32 → Prop} {p0 : Int64} {p1 : Int32} (hp : post 1) : wpL_lawOf post () p0 p1 := by
  unfold wpL_lawOf
  intro x ex
  clear ex
  obtain ⟨V, hV, e⟩ := wb_of x
  subst e
  refine bm_X0 hV (fun y => ?_) (fun b hb hT => ?_)
  · refine bm_X1 hV (fun c h1 h2 h3 h4 => ?_)
    have hc : 1 = c := by
      rcases h4 with h | h
      · exact h.symm
      · have h5 := Nat.two_pow_pos (8 * (c - 1))
        omega
    exact br_t (congrArg nI hc) hp
  · refine bm_X1 hV (fun c h1 h2 h3 h4 => ?_)
    have hc : b / 8 + 1 = c := by
      have a1 : b < 8 * c := bm_Tlt hT h3
      rcases h4 with h | h
      · omega
      · have a2 : 8 * (c - 1) ≤ b := bm_Tge hT h
        omega
    exact br_t (congrArg nI hc) hp
theorem bm_cell {post : Int32 → Prop} {L : Nat} {xs : Nat → Int32} (hL : L ≤ 3) (k : Nat) (hk : k < 3) (hp : ∀ r, post r) : wpL_cellAt post L xs () (nI k) := by
  unfold wpL_cellAt
  exact pk_le L k (fun _ => hp _) (fun z => ⟨pk_in k L z, hp _⟩)
theorem i_vc (xs : Nat → Int32) (L : Nat) (hL : L ≤ 3) : wpL_law (fun r => r = 1) L xs := by
  unfold wpL_law
  exact bm_cell hL 0 (by decide) (fun r1 => bm_cell hL 1 (by decide) (fun r2 => bm_cell hL 2 (by decide) (fun r3 => bm_law rfl)))
end
