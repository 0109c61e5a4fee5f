section
/-! the plain law: counts of live cells, the remapped cell, the squashed code -/
/-- x &&& m for a mask m of k ones (kit/rows) -/
theorem pk_and (x : Int32) {m : Int32} (k : Nat) (hm : m.toBitVec.toNat = 2 ^ k - 1) : x &&& m = nI (x.toBitVec.toNat % 2 ^ k) := by
  apply Int32.toBitVec_inj.mp
  apply BitVec.eq_of_toNat_eq
  rw [Int32.toBitVec_and, BitVec.toNat_and, hm, Nat.and_two_pow_sub_one_eq_mod]
  show _ = (BitVec.ofNat 32 _).toNat
  rw [BitVec.toNat_ofNat]
  exact (Nat.mod_eq_of_lt (Nat.lt_of_le_of_lt (Nat.mod_le _ _) x.toBitVec.isLt)).symm
theorem pk_andE (x : Int32) {m : Int32} (k : Nat) (hm : m.toBitVec.toNat = 2 ^ k - 1) : ∃ j : Nat, j < 2 ^ k ∧ x &&& m = nI j := ⟨_, Nat.mod_lt _ (Nat.two_pow_pos k), pk_and x k hm⟩
theorem sq_us {f : Nat → Int32} {k : Nat} {x : Int32} : upd f k x k = x := if_pos rfl
theorem sq_un {f : Nat → Int32} {k j : Nat} {x : Int32} (h : j ≠ k) : upd f k x j = f j := if_neg h
theorem sq_idem (z : Int32) : z.toInt16.toInt32.toInt16.toInt32 = z.toInt16.toInt32 := by
  rw [Int16.toInt16_toInt32]
theorem sq_ns (z : Int32) : vp_nar .short z.toInt16.toInt32 = z.toInt16.toInt32 := by
  rw [vp_nar_short, sq_idem]
theorem sq_nb0 : vp_nar .boolean 0 = 0 := rfl
theorem sq_ns0 : vp_nar .short 0 = 0 := by rw [vp_nar_short]; rfl
theorem sq_31 (x : Int32) : ∃ j : Nat, j < 32 ∧ x &&& 31 = nI j := pk_andE x 5 (by decide)
theorem sq_n31 : ∀ t, t < 17 → nI t &&& 31 = nI t := by decide +kernel
theorem sq_16 : nI 16 = 16 := rfl
theorem sq_le16 : (16 : Int32) ≤ nI 16 := by decide +kernel
theorem sq_nle16 {i : Nat} (h : i < 16) : ¬ (16 : Int32) ≤ nI i := by
  rw [← sq_16]; exact nI_ge h (by decide)
theorem sq_b31 : ∀ i, i < 32 → 5 ≤ i → ((31 : Int32).toBitVec).getLsbD i = false := by decide +kernel
theorem sq_bm : ∀ i, i < 5 → ((-32 : Int32).toBitVec).getLsbD i = false := by decide +kernel
/-- the low five bits of a remapped cell are the new target's -/
theorem sq_bits (x y : Int32) : ((x &&& (-32)) ||| y).toInt16.toInt32 &&& 31 = y &&& 31 := by
  apply Int32.toBitVec_inj.mp
  apply BitVec.eq_of_getLsbD_eq
  intro i hi
  rw [Int32.toBitVec_and, Int32.toBitVec_and, BitVec.getLsbD_and, BitVec.getLsbD_and]
  by_cases h : i < 5
  · have h16 : i < 16 := by omega
    rw [Int16.toBitVec_toInt32, Int32.toBitVec_toInt16, BitVec.getLsbD_signExtend, BitVec.getLsbD_signExtend, if_pos h16, if_pos hi, Int32.toBitVec_or, BitVec.getLsbD_or, Int32.toBitVec_and, BitVec.getLsbD_and, sq_bm i h, decide_eq_true hi, decide_eq_true h16]
    simp only [Bool.and_false, Bool.false_or, Bool.true_and]
  · rw [sq_b31 i hi (by omega), Bool.and_false, Bool.and_false]
/-- a cell of code of length L: a short, and a branch's target is at most L -/
def sq_ok (L : Nat) (x : Int32) : Prop := x.toInt16.toInt32 = x ∧ (¬ 0 ≤ x → ∃ t : Nat, t ≤ L ∧ x &&& 31 = nI t)
theorem sq_ok0 (L : Nat) : sq_ok L 0 := ⟨rfl, fun n => absurd (by decide) n⟩
/-- the live cells below i -/
def sq_cn (d : Nat → Int32) : Nat → Nat
  | 0 => 0
  | i + 1 => if d i = 0 then sq_cn d i + 1 else sq_cn d i
theorem sq_cn_t {d : Nat → Int32} {i : Nat} (z : d i = 0) : sq_cn d (i + 1) = sq_cn d i + 1 := if_pos z
theorem sq_cn_f {d : Nat → Int32} {i : Nat} (z : ¬ d i = 0) : sq_cn d (i + 1) = sq_cn d i := if_neg z
theorem sq_cn_le (d : Nat → Int32) : ∀ i, sq_cn d i ≤ i := by
  intro i
  induction i with
  | zero => exact Nat.le_refl 0
  | succ i ih =>
    by_cases z : d i = 0
    · rw [sq_cn_t z]; omega
    · rw [sq_cn_f z]; omega
theorem sq_cn_s (d : Nat → Int32) (i : Nat) : sq_cn d i ≤ sq_cn d (i + 1) := by
  by_cases z : d i = 0
  · rw [sq_cn_t z]; omega
  · rw [sq_cn_f z]; omega
theorem sq_cn_mono (d : Nat → Int32) {i : Nat} : ∀ j, i ≤ j → sq_cn d i ≤ sq_cn d j := by
  intro j
  induction j with
  | zero => intro h; have e : i = 0 := by omega
            rw [e]; exact Nat.le_refl _
  | succ j ih =>
    intro h
    by_cases e : i = j + 1
    · rw [e]; exact Nat.le_refl _
    · exact Nat.le_trans (ih (by omega)) (sq_cn_s d j)
/-- a live cell as compact writes it -/
def sq_f (d : Nat → Int32) (x : Int32) : Int32 :=
  if 0 ≤ x then x else ((x &&& (-32)) ||| nI (sq_cn d (x &&& 31).toNatClampNeg)).toInt16.toInt32
theorem sq_f_t (d : Nat → Int32) {x : Int32} (s : 0 ≤ x) : sq_f d x = x := if_pos s
theorem sq_f_f (d : Nat → Int32) {x : Int32} {t : Nat} (s : ¬ 0 ≤ x) (ht : t < 2 ^ 31) (e : x &&& 31 = nI t) : sq_f d x = ((x &&& (-32)) ||| nI (sq_cn d t)).toInt16.toInt32 := by
  unfold sq_f
  rw [if_neg s, e, nI_clamp ht]
theorem sq_f_ok {d : Nat → Int32} {L : Nat} (hL : L ≤ 16) {x : Int32} (h : sq_ok L x) : sq_ok (sq_cn d L) (sq_f d x) := by
  by_cases s : 0 ≤ x
  · rw [sq_f_t d s]; exact ⟨h.1, fun n => absurd s n⟩
  · obtain ⟨t, ht, e⟩ := h.2 s
    rw [sq_f_f d s (by omega) e]
    refine ⟨sq_idem _, fun _ => ⟨sq_cn d t, sq_cn_mono d L ht, ?_⟩⟩
    rw [sq_bits]
    have hb := sq_cn_le d t
    exact sq_n31 _ (by omega)
/-- the code behind i rounds of the squashing loop -/
def sq_cc (c d : Nat → Int32) : Nat → Nat → Int32
  | 0 => c
  | i + 1 => if d i = 0 then upd (sq_cc c d i) (sq_cn d i) (sq_f d (c i)) else sq_cc c d i
theorem sq_cc_t {c d : Nat → Int32} {i : Nat} (z : d i = 0) : sq_cc c d (i + 1) = upd (sq_cc c d i) (sq_cn d i) (sq_f d (c i)) := if_pos z
theorem sq_cc_f {c d : Nat → Int32} {i : Nat} (z : ¬ d i = 0) : sq_cc c d (i + 1) = sq_cc c d i := if_neg z
theorem sq_cc_hi (c d : Nat → Int32) : ∀ i j, i ≤ j → sq_cc c d i j = c j := by
  intro i
  induction i with
  | zero => intro j _; rfl
  | succ i ih =>
    intro j h
    by_cases z : d i = 0
    · have hb := sq_cn_le d i
      rw [sq_cc_t z, sq_un (by omega)]; exact ih j (by omega)
    · rw [sq_cc_f z]; exact ih j (by omega)
theorem sq_cc_ok {c d : Nat → Int32} {L : Nat} (hL : L ≤ 16) (hc : ∀ j, j < L → sq_ok L (c j)) : ∀ i, i ≤ L → ∀ j, j < sq_cn d i → sq_ok (sq_cn d L) (sq_cc c d i j) := by
  intro i
  induction i with
  | zero => intro _ j h; exact absurd h (Nat.not_lt_zero j)
  | succ i ih =>
    intro hi j h
    by_cases z : d i = 0
    · rw [sq_cn_t z] at h
      rw [sq_cc_t z]
      by_cases e : j = sq_cn d i
      · rw [e, sq_us]; exact sq_f_ok hL (hc i (by omega))
      · rw [sq_un e]; exact ih (by omega) j (by omega)
    · rw [sq_cn_f z] at h
      rw [sq_cc_f z]; exact ih (by omega) j h
/-- one more entry of the map -/
theorem sq_mp {d m : Nat → Int32} {i : Nat} (hm : ∀ j, j < i → m j = nI (sq_cn d j)) : ∀ j, j < i + 1 → upd m i (nI (sq_cn d i)) j = nI (sq_cn d j) := by
  intro j hj
  by_cases e : j = i
  · rw [e, sq_us]
  · rw [sq_un e]; exact hm j (by omega)
end
section
/-! compact: each loop against the plain law, over a general post -/
theorem sq_x4 {post : Int32 → SX → Prop} {L : Nat} (hL : L ≤ 16) (c d : Nat → Int32)
    (hend : ∀ m : Nat → Int32, (∀ j, j ≤ L → m j = nI (sq_cn d j)) → ∃ n51 : Nat, wX_compact_51 post (nI (sq_cn d L)) (nI L) n51 0 0 c d m) :
    ∀ (q i : Nat) (m : Nat → Int32), i + q = L → (∀ j, j < i → m j = nI (sq_cn d j)) → wX_compact_4 post (nI L) (q + 1) (nI (sq_cn d i)) (nI i) c d m := by
  intro q
  induction q with
  | zero =>
    intro i m hi hm
    have e : i = L := by omega
    rw [e] at hm ⊢
    refine br_t (nI_le (Nat.le_refl L) (by omega)) ⟨vp_in_nI (by omega) (by omega), ?_⟩
    refine nm_r (e' := upd m L (nI (sq_cn d L))) (by rw [nI_clamp (by omega)]) ?_
    exact hend _ (fun j hj => sq_mp hm j (by omega))
  | succ q ih =>
    intro i m hi hm
    have hcl : (nI i).toNatClampNeg = i := nI_clamp (by omega)
    refine br_f (nI_ge (by omega) (by omega)) ⟨vp_in_nI (by omega) (by omega), ?_⟩
    refine nm_r (e' := upd m i (nI (sq_cn d i))) (by rw [hcl]) ⟨vp_in_nI (by omega) (by omega), ?_⟩
    rw [hcl]
    by_cases z : d i = 0
    · refine br_t z (nm_r (e' := nI (sq_cn d (i + 1))) (by rw [nI_1, sq_cn_t z]) (nm_r (nI_1 i) ?_))
      exact ih (i + 1) _ (by omega) (sq_mp hm)
    · have g := ih (i + 1) _ (by omega) (sq_mp hm)
      rw [sq_cn_f z] at g
      exact br_f z (nm_r (nI_1 i) g)
theorem sq_y4 {post : Int32 → SY → Prop} {L : Nat} (hL : L ≤ 16) (c d d' : Nat → Int32) (hd : ∀ j, j < L → d' j = d j)
    (hend : ∀ m : Nat → Int32, (∀ j, j ≤ L → m j = nI (sq_cn d j)) → ∃ n51 : Nat, wY_compact_51 post (nI (sq_cn d L)) (nI L) n51 0 0 c d' m) :
    ∀ (q i : Nat) (m : Nat → Int32), i + q = L → (∀ j, j < i → m j = nI (sq_cn d j)) → wY_compact_4 post (nI L) (q + 1) (nI (sq_cn d i)) (nI i) c d' m := by
  intro q
  induction q with
  | zero =>
    intro i m hi hm
    have e : i = L := by omega
    rw [e] at hm ⊢
    refine br_t (nI_le (Nat.le_refl L) (by omega)) ⟨vp_in_nI (by omega) (by omega), ?_⟩
    refine nm_r (e' := upd m L (nI (sq_cn d L))) (by rw [nI_clamp (by omega)]) ?_
    exact hend _ (fun j hj => sq_mp hm j (by omega))
  | succ q ih =>
    intro i m hi hm
    have hcl : (nI i).toNatClampNeg = i := nI_clamp (by omega)
    refine br_f (nI_ge (by omega) (by omega)) ⟨vp_in_nI (by omega) (by omega), ?_⟩
    refine nm_r (e' := upd m i (nI (sq_cn d i))) (by rw [hcl]) ⟨vp_in_nI (by omega) (by omega), ?_⟩
    rw [hcl, hd i (by omega)]
    by_cases z : d i = 0
    · refine br_t z (nm_r (e' := nI (sq_cn d (i + 1))) (by rw [nI_1, sq_cn_t z]) (nm_r (nI_1 i) ?_))
      exact ih (i + 1) _ (by omega) (sq_mp hm)
    · have g := ih (i + 1) _ (by omega) (sq_mp hm)
      rw [sq_cn_f z] at g
      exact br_f z (nm_r (nI_1 i) g)
theorem sq_x161 {post : Int32 → SX → Prop} {N L : Int32} {W : Nat} (c0 d m : Nat → Int32)
    (hend : ∀ c : Nat → Int32, (∀ j, j < W → c j = c0 j) → post N (N, c, d, m)) :
    ∀ (q i : Nat) (c : Nat → Int32), i + q = 16 → W ≤ i → (∀ j, j < W → c j = c0 j) → wX_compact_161 post N L (q + 1) (nI i) c d m := by
  intro q
  induction q with
  | zero =>
    intro i c hi hw hc
    have e : i = 16 := by omega
    rw [e]
    exact br_t sq_le16 (hend c hc)
  | succ q ih =>
    intro i c hi hw hc
    refine br_f (sq_nle16 (by omega)) ⟨vp_in_nI (by omega) (by omega), ?_⟩
    refine nm_r (e' := upd c i 0) (by rw [nI_clamp (by omega), sq_ns0]) (nm_r (nI_1 i) ?_)
    exact ih (i + 1) _ (by omega) (by omega) (fun j hj => by rw [sq_un (by omega)]; exact hc j hj)
/-- d is cleared below i + 1 -/
theorem sq_clr {d : Nat → Int32} {i : Nat} (hd : ∀ j, j < i → d j = 0) : ∀ j, j < i + 1 → upd d i 0 j = 0 := by
  intro j hj
  by_cases e : j = i
  · rw [e, sq_us]
  · rw [sq_un e]; exact hd j (by omega)
theorem sq_x140 {post : Int32 → SX → Prop} {N w L : Int32} (c m : Nat → Int32)
    (hend : ∀ d : Nat → Int32, (∀ j, j < 16 → d j = 0) → ∃ n161 : Nat, wX_compact_161 post N L n161 w c d m) :
    ∀ (q i : Nat) (d : Nat → Int32), i + q = 16 → (∀ j, j < i → d j = 0) → wX_compact_140 post N w L (q + 1) (nI i) c d m := by
  intro q
  induction q with
  | zero =>
    intro i d hi hd
    have e : i = 16 := by omega
    rw [e] at hd ⊢
    exact br_t sq_le16 (hend d hd)
  | succ q ih =>
    intro i d hi hd
    refine br_f (sq_nle16 (by omega)) ⟨vp_in_nI (by omega) (by omega), ?_⟩
    refine nm_r (e' := upd d i 0) (by rw [nI_clamp (by omega), sq_nb0]) (nm_r (nI_1 i) ?_)
    exact ih (i + 1) _ (by omega) (sq_clr hd)
theorem sq_x120 {post : Int32 → SX → Prop} {J : Int32 → Int32 → (Nat → Int32) → (Nat → Int32) → (Nat → Int32) → Prop} {N L x y : Int32} {w k : Nat} {c d m : Nat → Int32} (hw : w < 16) (hx : x.toInt16.toInt32 = y)
    (h : J (nI (w + 1)) (nI (k + 1)) (upd c w y) d m) : wX_compact_120 post J N (nI w) (nI k) x L c d m := by
  unfold wX_compact_120
  refine ⟨vp_in_nI hw (by omega), ?_⟩
  exact nm_r (e' := upd c w y) (by rw [nI_clamp (by omega), sq_ns, hx]) (nm_r (nI_1 w) (nm_r (nI_1 k) h))
theorem sq_x51 {post : Int32 → SX → Prop} {L : Nat} (hL : L ≤ 16) (c d m : Nat → Int32) (hm : ∀ j, j ≤ L → m j = nI (sq_cn d j)) (hc : ∀ j, j < L → sq_ok L (c j)) (N : Int32)
    (hend : ∃ n140 : Nat, wX_compact_140 post N (nI (sq_cn d L)) (nI L) n140 0 (sq_cc c d L) d m) :
    ∀ q i : Nat, i + q = L → wX_compact_51 post N (nI L) (q + 1) (nI (sq_cn d i)) (nI i) (sq_cc c d i) d m := by
  intro q
  induction q with
  | zero =>
    intro i hi
    have e : i = L := by omega
    rw [e]
    exact br_t (nI_le (Nat.le_refl L) (by omega)) hend
  | succ q ih =>
    intro i hi
    have hcl : (nI i).toNatClampNeg = i := nI_clamp (by omega)
    have hb := sq_cn_le d i
    have g := ih (i + 1) (by omega)
    refine br_f (nI_ge (by omega) (by omega)) ⟨vp_in_nI (by omega) (by omega), ?_⟩
    rw [hcl]
    by_cases z : d i = 0
    · rw [sq_cn_t z, sq_cc_t z] at g
      refine br_t z ⟨vp_in_nI (by omega) (by omega), nm_r (e' := c i) (sq_cc_hi c d i i (Nat.le_refl i)) ?_⟩
      have ho := hc i (by omega)
      by_cases s : 0 ≤ c i
      · exact br_t s (sq_x120 (by omega) (by rw [sq_f_t d s]; exact ho.1) g)
      · obtain ⟨t, ht, e⟩ := ho.2 s
        refine br_f s (nm_r (e' := nI t) e (br_f (nI_nlt ht (by omega)) ⟨vp_in_nI (by omega) (by omega), ?_⟩))
        rw [nI_clamp (by omega), hm t ht]
        unfold wX_compact_108
        exact nm_e (sq_x120 (by omega) (sq_f_f d s (by omega) e).symm g)
    · rw [sq_cn_f z, sq_cc_f z] at g
      exact br_f z (nm_r (nI_1 i) g)
theorem sq_y100 {post : Int32 → SY → Prop} {J : Int32 → Int32 → (Nat → Int32) → (Nat → Int32) → (Nat → Int32) → Prop} {N L x y : Int32} {w k : Nat} {c d m : Nat → Int32} (hw : w < 16) (hk : k < 16) (hx : x.toInt16.toInt32 = y)
    (h : J (nI (w + 1)) (nI (k + 1)) (upd c w y) (upd d k 0) m) : wY_compact_100 post J N (nI w) (nI k) x L c d m := by
  unfold wY_compact_100
  refine nm_r (nI_1 w) ⟨vp_in_nI hw (by omega), ?_⟩
  refine nm_r (e' := upd c w y) (by rw [nI_clamp (by omega), vp_nar_short, hx]) ⟨vp_in_nI hk (by omega), ?_⟩
  exact nm_r (e' := upd d k 0) (by rw [nI_clamp (by omega), sq_nb0]) (nm_r (nI_1 k) h)
theorem sq_y51 {post : Int32 → SY → Prop} {L : Nat} (hL : L ≤ 16) (c d m : Nat → Int32) (hm : ∀ j, j ≤ L → m j = nI (sq_cn d j)) (hc : ∀ j, j < L → sq_ok L (c j)) (N : Int32)
    (hend : ∀ c' d' : Nat → Int32, (∀ j, j < L → c' j = sq_cc c d L j) → (∀ j, j < L → d' j = 0) → post N (N, c', d', m)) :
    ∀ (q i : Nat) (c' d' : Nat → Int32), i + q = L → (∀ j, j < L → c' j = sq_cc c d i j) → (∀ j, j < i → d' j = 0) → (∀ j, i ≤ j → j < L → d' j = d j) → wY_compact_51 post N (nI L) (q + 1) (nI (sq_cn d i)) (nI i) c' d' m := by
  intro q
  induction q with
  | zero =>
    intro i c' d' hi h1 h2 h3
    have e : i = L := by omega
    rw [e] at h1 h2 ⊢
    exact br_t (nI_le (Nat.le_refl L) (by omega)) (hend c' d' h1 h2)
  | succ q ih =>
    intro i c' d' hi h1 h2 h3
    have hcl : (nI i).toNatClampNeg = i := nI_clamp (by omega)
    have hb := sq_cn_le d i
    have k3 : ∀ j, i + 1 ≤ j → j < L → upd d' i 0 j = d j := fun j hj hl => by
      rw [sq_un (by omega)]; exact h3 j (by omega) hl
    refine br_f (nI_ge (by omega) (by omega)) ⟨vp_in_nI (by omega) (by omega), ?_⟩
    rw [hcl, h3 i (Nat.le_refl i) (by omega)]
    by_cases z : d i = 0
    · have k1 : ∀ j, j < L → upd c' (sq_cn d i) (sq_f d (c i)) j = sq_cc c d (i + 1) j := fun j hj => by
        rw [sq_cc_t z]
        by_cases e : j = sq_cn d i
        · rw [e, sq_us, sq_us]
        · rw [sq_un e, sq_un e]; exact h1 j hj
      have g := ih (i + 1) _ _ (by omega) k1 (sq_clr h2) k3
      rw [sq_cn_t z] at g
      refine br_t z ⟨vp_in_nI (by omega) (by omega), nm_r (e' := c i) ((h1 i (by omega)).trans (sq_cc_hi c d i i (Nat.le_refl i))) ?_⟩
      have ho := hc i (by omega)
      have hf : (sq_f d (c i)).toInt16.toInt32 = sq_f d (c i) := (sq_f_ok (d := d) hL ho).1
      by_cases s : 0 ≤ c i
      · exact br_t s (sq_y100 (by omega) (by omega) (by rw [sq_f_t d s]; exact ho.1) g)
      · obtain ⟨t, ht, e⟩ := ho.2 s
        refine br_f s ?_
        rw [e]
        refine ⟨vp_in_nI (by omega) (by omega), nm_r (e' := sq_f d (c i)) ?_ (sq_y100 (by omega) (by omega) hf g)⟩
        rw [nI_clamp (by omega), hm t ht]
        exact (sq_f_f d s (by omega) e).symm
    · have g := ih (i + 1) c' (upd d' i 0) (by omega) (by rw [sq_cc_f z]; exact h1) (sq_clr h2) k3
      rw [sq_cn_f z] at g
      refine br_f z ⟨vp_in_nI (by omega) (by omega), ?_⟩
      exact nm_r (e' := upd d' i 0) (by rw [sq_nb0]) (nm_r (nI_1 i) g)
end
section
/-- one length, at most 16; below it equal code and equal dead marks, and every cell is sound; the maps are free -/
def i_Rel (_ : Nat) (u : SX) (v : SY) : Prop :=
  ∃ (L : Nat) (c d m c' d' m' : Nat → Int32), u = (nI L, c, d, m) ∧ v = (nI L, c', d', m') ∧ L ≤ 16 ∧ ∀ j, j < L → c' j = c j ∧ d' j = d j ∧ sq_ok L (c j)
theorem i_up {k : Nat} {u : SX} {v : SY} (h : i_Rel k u v) : i_Rel (k + 3) u v := h
theorem i_vc0 : wpX_init (fun u => wpY_init (fun v => i_Rel 0 u v)) :=
  ⟨16, fun _ => 0, fun _ => 0, fun _ => 0, fun _ => 0, fun _ => 0, fun _ => 0, rfl, rfl, Nat.le_refl 16, fun _ _ => ⟨rfl, rfl, sq_ok0 16⟩⟩
/-- one store on both sides -/
theorem sq_put {c c' d d' : Nat → Int32} {L i : Nat} {x : Int32} (h : ∀ j, j < L → c' j = c j ∧ d' j = d j ∧ sq_ok L (c j)) (hx : sq_ok L x) :
    ∀ j, j < L → upd c' i x j = upd c i x j ∧ d' j = d j ∧ sq_ok L (upd c i x j) := by
  intro j hj
  by_cases e : j = i
  · rw [e, sq_us, sq_us, ← e]; exact ⟨rfl, (h j hj).2.1, hx⟩
  · rw [sq_un e, sq_un e]; exact h j hj
theorem sq_kill {c c' d d' : Nat → Int32} {L i : Nat} {x : Int32} (h : ∀ j, j < L → c' j = c j ∧ d' j = d j ∧ sq_ok L (c j)) :
    ∀ j, j < L → c' j = c j ∧ upd d' i x j = upd d i x j ∧ sq_ok L (c j) := by
  intro j hj
  by_cases e : j = i
  · rw [e, sq_us, sq_us, ← e]; exact ⟨(h j hj).1, rfl, (h j hj).2.2⟩
  · rw [sq_un e, sq_un e]; exact h j hj
theorem i_vc_put {k : Nat} {u : SX} {v : SY} (I : i_Rel k u v) (hk : k + 3 ≤ 1536) (v1 : Int32) (v2 : Int32) : wpX_put (fun r u' => wpY_put (fun r' v' => r' = r ∧ i_Rel (k + 3) u' v') v v1 v2) u v1 v2 := by
  obtain ⟨L, c, d, m, c', d', m', rfl, rfl, hL, h⟩ := I
  have R : i_Rel (k + 3) (nI L, c, d, m) (nI L, c', d', m') := ⟨L, c, d, m, c', d', m', rfl, rfl, hL, h⟩
  by_cases h0 : v1 < 0
  · exact br_t h0 (br_t h0 ⟨rfl, R⟩)
  · by_cases hl : v1 < nI L
    · have hi : vp_in v1 16 := by
        obtain ⟨j, hj, rfl⟩ := nI_of h0
        rw [nI_ltI hj (by omega)] at hl
        exact vp_in_nI (by omega) (by omega)
      have S : sq_ok L v2.toInt16.toInt32 → i_Rel (k + 3) (nI L, upd c v1.toNatClampNeg (vp_nar .short v2.toInt16.toInt32), d, m) (nI L, upd c' v1.toNatClampNeg (vp_nar .short v2.toInt16.toInt32), d', m') := fun hx =>
        ⟨L, _, d, m, _, d', m', rfl, rfl, hL, sq_put h (by rw [sq_ns]; exact hx)⟩
      by_cases hs : 0 ≤ v2.toInt16.toInt32
      · have hx : sq_ok L v2.toInt16.toInt32 := ⟨sq_idem v2, fun n => absurd hs n⟩
        exact br_f h0 (br_t hl (br_t hs ⟨hi, nm_e (br_f h0 (br_t hl (br_t hs ⟨hi, nm_e ⟨rfl, S hx⟩⟩)))⟩))
      · by_cases ht : (v2.toInt16.toInt32 &&& 31) ≤ nI L
        · have hx : sq_ok L v2.toInt16.toInt32 := by
            obtain ⟨t, h32, e⟩ := sq_31 v2.toInt16.toInt32
            rw [e, nI_leI (by omega) (by omega)] at ht
            exact ⟨sq_idem v2, fun _ => ⟨t, ht, e⟩⟩
          exact br_f h0 (br_t hl (br_f hs (br_t ht ⟨hi, nm_e (br_f h0 (br_t hl (br_f hs (br_t ht ⟨hi, nm_e ⟨rfl, S hx⟩⟩))))⟩)))
        · exact br_f h0 (br_t hl (br_f hs (br_f ht (br_f h0 (br_t hl (br_f hs (br_f ht ⟨rfl, R⟩)))))))
    · exact br_f h0 (br_f hl (br_f h0 (br_f hl ⟨rfl, R⟩)))
theorem i_vc_kill {k : Nat} {u : SX} {v : SY} (I : i_Rel k u v) (hk : k + 3 ≤ 1536) (v1 : Int32) : wpX_kill (fun r u' => wpY_kill (fun r' v' => r' = r ∧ i_Rel (k + 3) u' v') v v1) u v1 := by
  obtain ⟨L, c, d, m, c', d', m', rfl, rfl, hL, h⟩ := I
  have R : i_Rel (k + 3) (nI L, c, d, m) (nI L, c', d', m') := ⟨L, c, d, m, c', d', m', rfl, rfl, hL, h⟩
  by_cases h0 : v1 < 0
  · exact br_t h0 (br_t h0 ⟨rfl, R⟩)
  · by_cases hl : v1 < nI L
    · have hj : v1.toNatClampNeg < L ∧ vp_in v1 16 := by
        obtain ⟨j, hj, rfl⟩ := nI_of h0
        rw [nI_ltI hj (by omega)] at hl
        rw [nI_clamp hj]
        exact ⟨hl, vp_in_nI (by omega) (by omega)⟩
      have hi := hj.2
      have e := (h _ hj.1).2.1
      have S : i_Rel (k + 3) (nI L, c, upd d v1.toNatClampNeg (vp_nar .boolean 1), m) (nI L, c', upd d' v1.toNatClampNeg (vp_nar .boolean 1), m') :=
        ⟨L, c, _, m, c', _, m', rfl, rfl, hL, sq_kill h⟩
      by_cases z : d v1.toNatClampNeg = 0
      · have z' : d' v1.toNatClampNeg = 0 := e.trans z
        exact br_f h0 (br_t hl ⟨hi, br_t z ⟨hi, nm_e (br_f h0 (br_t hl ⟨hi, br_t z' ⟨hi, nm_e ⟨rfl, S⟩⟩⟩))⟩⟩)
      · have z' : ¬ d' v1.toNatClampNeg = 0 := fun q => z (e.symm.trans q)
        exact br_f h0 (br_t hl ⟨hi, br_f z (br_f h0 (br_t hl ⟨hi, br_f z' ⟨rfl, R⟩⟩))⟩)
    · exact br_f h0 (br_f hl (br_f h0 (br_f hl ⟨rfl, R⟩)))
theorem i_vc_compact {k : Nat} {u : SX} {v : SY} (I : i_Rel k u v) (hk : k + 3 ≤ 1536) : wpX_compact (fun r u' => wpY_compact (fun r' v' => r' = r ∧ i_Rel (k + 3) u' v') v) u := by
  obtain ⟨L, c, d, m, c', d', m', rfl, rfl, hL, h⟩ := I
  have hc : ∀ j, j < L → sq_ok L (c j) := fun j hj => (h j hj).2.2
  have hN := sq_cn_le d L
  unfold wpX_compact
  dsimp only
  refine ⟨L + 1, sq_x4 hL c d (fun m1 hm1 => ⟨L + 1, ?_⟩) L 0 m (Nat.zero_add L) (fun j hj => absurd hj (Nat.not_lt_zero j))⟩
  refine sq_x51 hL c d m1 hm1 hc (nI (sq_cn d L)) ⟨17, ?_⟩ L 0 (Nat.zero_add L)
  refine sq_x140 (sq_cc c d L) m1 (fun d1 hd1 => ⟨16 - sq_cn d L + 1, ?_⟩) 16 0 d rfl (fun j hj => absurd hj (Nat.not_lt_zero j))
  refine sq_x161 (W := sq_cn d L) (sq_cc c d L) d1 m1 (fun c1 hc1 => ?_) (16 - sq_cn d L) (sq_cn d L) (sq_cc c d L) (by omega) (Nat.le_refl _) (fun _ _ => rfl)
  unfold wpY_compact
  dsimp only
  refine ⟨L + 1, sq_y4 hL c' d d' (fun j hj => (h j hj).2.1) (fun m2 hm2 => ⟨L + 1, ?_⟩) L 0 m' (Nat.zero_add L) (fun j hj => absurd hj (Nat.not_lt_zero j))⟩
  refine sq_y51 hL c d m2 hm2 hc (nI (sq_cn d L)) (fun c2 d2 hc2 hd2 => ?_) L 0 c' d' (Nat.zero_add L) (fun j hj => (h j hj).1) (fun j hj => absurd hj (Nat.not_lt_zero j)) (fun j _ hj => (h j hj).2.1)
  refine ⟨rfl, sq_cn d L, c1, d1, m1, c2, d2, m2, rfl, rfl, by omega, fun j hj => ⟨?_, ?_, ?_⟩⟩
  · rw [hc2 j (by omega), hc1 j hj]
  · rw [hd2 j (by omega), hd1 j (by omega)]
  · rw [hc1 j hj]; exact sq_cc_ok hL hc L (Nat.le_refl L) j hj
theorem i_vc_at {k : Nat} {u : SX} {v : SY} (I : i_Rel k u v) (hk : k + 3 ≤ 1536) (v1 : Int32) : wpX_at (fun r => wpY_at (fun r' => r' = r ∧ i_Rel (k + 3) u v) v v1) u v1 := by
  have R : i_Rel (k + 3) u v := I
  obtain ⟨L, c, d, m, c', d', m', rfl, rfl, hL, h⟩ := I
  by_cases h0 : v1 < 0
  · exact br_t h0 (br_t h0 ⟨rfl, R⟩)
  · by_cases hl : v1 < nI L
    · have hj : v1.toNatClampNeg < L ∧ vp_in v1 16 := by
        obtain ⟨j, hj, rfl⟩ := nI_of h0
        rw [nI_ltI hj (by omega)] at hl
        rw [nI_clamp hj]
        exact ⟨hl, vp_in_nI (by omega) (by omega)⟩
      exact br_f h0 (br_t hl ⟨hj.2, br_f h0 (br_t hl ⟨hj.2, (h _ hj.1).1, R⟩)⟩)
    · exact br_f h0 (br_f hl (br_f h0 (br_f hl ⟨rfl, R⟩)))
theorem i_vc_length {k : Nat} {u : SX} {v : SY} (I : i_Rel k u v) (hk : k + 3 ≤ 1536) : wpX_length (fun r => wpY_length (fun r' => r' = r ∧ i_Rel (k + 3) u v) v) u := by
  have R : i_Rel (k + 3) u v := I
  obtain ⟨L, c, d, m, c', d', m', rfl, rfl, hL, h⟩ := I
  exact ⟨rfl, R⟩
end
