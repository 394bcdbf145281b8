section
/-- bit j of a long -/
def gc_b (x : Int64) (j : Nat) : Bool := x.toBitVec.getLsbD j
theorem gc_exti {x y : Int64} (h : ∀ j, j < 64 → (gc_b x j = true ↔ gc_b y j = true)) : x = y := by
  apply Int64.toBitVec_inj.mp
  apply BitVec.eq_of_getLsbD_eq
  intro j hj
  exact Bool.eq_iff_iff.mpr (h j hj)
theorem gc_and (x y : Int64) (j : Nat) : gc_b (x &&& y) j = true ↔ gc_b x j = true ∧ gc_b y j = true := by
  unfold gc_b
  rw [Int64.toBitVec_and, BitVec.getLsbD_and, Bool.and_eq_true]
theorem gc_or (x y : Int64) (j : Nat) : gc_b (x ||| y) j = true ↔ gc_b x j = true ∨ gc_b y j = true := by
  unfold gc_b
  rw [Int64.toBitVec_or, BitVec.getLsbD_or, Bool.or_eq_true]
theorem gc_m1b : (-1 : Int64).toBitVec = BitVec.allOnes 64 := by decide
theorem gc_not (x : Int64) {j : Nat} (hj : j < 64) : gc_b (x ^^^ (-1)) j = true ↔ ¬ gc_b x j = true := by
  unfold gc_b
  rw [Int64.toBitVec_xor, gc_m1b, BitVec.getLsbD_xor, BitVec.getLsbD_allOnes]
  simp [hj]
theorem gc_0 (j : Nat) : ¬ gc_b 0 j = true := by
  unfold gc_b
  show ¬ (0#64).getLsbD j = true
  rw [BitVec.getLsbD_zero]
  decide
theorem gc_m1 {j : Nat} (hj : j < 64) : gc_b (-1) j = true := by
  unfold gc_b
  rw [gc_m1b, BitVec.getLsbD_allOnes]
  exact decide_eq_true hj
theorem gc_sh : ∀ k, k < 64 → ((1 : Int64) <<< ((nI k).toInt64 &&& 63)).toBitVec = BitVec.twoPow 64 k := by decide +kernel
theorem gc_one {k : Nat} (hk : k < 64) (j : Nat) : gc_b ((1 : Int64) <<< ((nI k).toInt64 &&& 63)) j = true ↔ k = j := by
  unfold gc_b
  rw [gc_sh k hk, BitVec.getLsbD_twoPow]
  simp [hk]
theorem gc_cu : ∀ k, k < 64 → ((nI k).toInt64.toUInt64 &&& Int64.toUInt64 63).toNat = k := by decide +kernel
theorem gc_cs : ∀ k, k < 64 → (((nI k).toInt64 &&& 63).toBitVec.smod 64).toNat = k := by decide +kernel
theorem gc_low (B : BitVec 64) : B &&& 1#64 = 1#64 ↔ B.getLsbD 0 = true := by
  constructor
  · intro h
    have t := congrArg (fun x => x.getLsbD 0) h
    simpa using t
  · intro h
    apply BitVec.eq_of_getLsbD_eq
    intro i hi
    rw [BitVec.getLsbD_and, BitVec.getLsbD_one]
    cases i with
    | zero => simp [h]
    | succ i => simp
/-- the class's own has: bit k -/
theorem gc_hb (x : Int64) {k : Nat} (hk : k < 64) : ((x.toUInt64 >>> ((nI k).toInt64.toUInt64 &&& Int64.toUInt64 63)).toInt64 &&& 1) = 1 ↔ gc_b x k = true := by
  have e : (x.toUInt64 >>> ((nI k).toInt64.toUInt64 &&& Int64.toUInt64 63)).toInt64.toBitVec = x.toBitVec >>> k := by
    apply BitVec.eq_of_toNat_eq
    show (x.toUInt64 >>> ((nI k).toInt64.toUInt64 &&& Int64.toUInt64 63)).toNat = _
    rw [UInt64.toNat_shiftRight, gc_cu k hk, Nat.mod_eq_of_lt hk, BitVec.toNat_ushiftRight]
    rfl
  rw [← Int64.toBitVec_inj, Int64.toBitVec_and, e]
  show x.toBitVec >>> k &&& 1#64 = 1#64 ↔ _
  rw [gc_low, BitVec.getLsbD_ushiftRight]
  rfl
/-- the law's own: the arithmetic shift -/
theorem gc_sb (x : Int64) {k : Nat} (hk : k < 64) : ((x >>> ((nI k).toInt64 &&& 63)) &&& 1) = 1 ↔ gc_b x k = true := by
  rw [← Int64.toBitVec_inj, Int64.toBitVec_and, Int64.toBitVec_shiftRight]
  show (x.toBitVec.sshiftRight' _) &&& 1#64 = 1#64 ↔ _
  rw [gc_low, BitVec.getLsbD_sshiftRight', gc_cs k hk]
  unfold gc_b
  simp [hk]
/-- x &~ y = 0: x lies in y -/
theorem gc_sub (x y : Int64) : (x &&& (y ^^^ (-1))) = 0 ↔ ∀ j, j < 64 → gc_b x j = true → gc_b y j = true := by
  constructor
  · intro h j hj hx
    by_cases hy : gc_b y j = true
    · exact hy
    · have t : gc_b (x &&& (y ^^^ (-1))) j = true := (gc_and _ _ j).mpr ⟨hx, (gc_not y hj).mpr hy⟩
      rw [h] at t
      exact absurd t (gc_0 j)
  · intro h
    apply gc_exti
    intro j hj
    constructor
    · intro t
      obtain ⟨t1, t2⟩ := (gc_and _ _ j).mp t
      exact absurd (h j hj t1) ((gc_not y hj).mp t2)
    · intro t
      exact absurd t (gc_0 j)
theorem gc_self (x : Int64) : (x &&& (x ^^^ (-1))) = 0 := (gc_sub x x).mpr (fun _ _ h => h)
/-- weakOf over the first n states -/
def gc_wk (a : Nat → Int64) (p : Nat) (q : Int64) : Nat → Int64
  | 0 => 0
  | n + 1 => if a (64 * p + n) &&& (q ^^^ (-1)) = 0 then gc_wk a p q n ||| ((1 : Int64) <<< ((nI n).toInt64 &&& 63)) else gc_wk a p q n
theorem gc_wk_b (a : Nat → Int64) (p : Nat) (q : Int64) (n : Nat) (hn : n ≤ 64) (j : Nat) : gc_b (gc_wk a p q n) j = true ↔ j < n ∧ ∀ m, m < 64 → gc_b (a (64 * p + j)) m = true → gc_b q m = true := by
  induction n with
  | zero => exact ⟨fun h => absurd h (gc_0 j), fun h => absurd h.1 (by omega)⟩
  | succ n ih =>
    have ih := ih (by omega)
    unfold gc_wk
    by_cases hz : a (64 * p + n) &&& (q ^^^ (-1)) = 0
    · rw [if_pos hz, gc_or, ih, gc_one (by omega)]
      constructor
      · intro h
        cases h with
        | inl h => exact ⟨by omega, h.2⟩
        | inr h => subst h; exact ⟨by omega, (gc_sub _ _).mp hz⟩
      · intro h
        by_cases e : n = j
        · exact Or.inr e
        · exact Or.inl ⟨by omega, h.2⟩
    · rw [if_neg hz, ih]
      constructor
      · intro h
        exact ⟨by omega, h.2⟩
      · intro h
        refine ⟨?_, h.2⟩
        by_cases e : n = j
        · subst e; exact absurd ((gc_sub _ _).mpr h.2) hz
        · omega
/-- imageOf over the first n states -/
def gc_im (a : Nat → Int64) (p : Nat) (m : Int64) : Nat → Int64
  | 0 => 0
  | n + 1 => if gc_b m n = true then gc_im a p m n ||| a (64 * p + n) else gc_im a p m n
theorem gc_im_b (a : Nat → Int64) (p : Nat) (m : Int64) (n : Nat) (j : Nat) : gc_b (gc_im a p m n) j = true ↔ ∃ k, k < n ∧ gc_b m k = true ∧ gc_b (a (64 * p + k)) j = true := by
  induction n with
  | zero => exact ⟨fun h => absurd h (gc_0 j), fun ⟨k, hk, _⟩ => absurd hk (by omega)⟩
  | succ n ih =>
    unfold gc_im
    by_cases hz : gc_b m n = true
    · rw [if_pos hz, gc_or, ih]
      constructor
      · intro h
        cases h with
        | inl h => obtain ⟨k, h1, h2⟩ := h; exact ⟨k, by omega, h2⟩
        | inr h => exact ⟨n, by omega, hz, h⟩
      · intro ⟨k, h1, h2, h3⟩
        by_cases e : k = n
        · subst e; exact Or.inr h3
        · exact Or.inl ⟨k, by omega, h2, h3⟩
    · rw [if_neg hz, ih]
      constructor
      · intro ⟨k, h1, h2⟩
        exact ⟨k, by omega, h2⟩
      · intro ⟨k, h1, h2, h3⟩
        by_cases e : k = n
        · subst e; exact absurd h2 hz
        · exact ⟨k, by omega, h2, h3⟩
theorem gc_im_c {a b : Nat → Int64} {p c : Nat} (m : Int64) (hp : p < c) (h : ∀ j, j < 64 * c → b j = a j) (n : Nat) (hn : n ≤ 64) : gc_im b p m n = gc_im a p m n := by
  induction n with
  | zero => rfl
  | succ n ih => unfold gc_im; rw [ih (by omega), h (64 * p + n) (by omega)]
/-- the law's checks -/
theorem gc_meet (a : Nat → Int64) (p : Nat) (s q r : Int64) : s &&& gc_wk a p (q &&& r) 64 = (s &&& gc_wk a p q 64) &&& (s &&& gc_wk a p r 64) := by
  apply gc_exti
  intro j hj
  simp only [gc_and, gc_wk_b _ _ _ 64 (Nat.le_refl 64)]
  constructor
  · intro ⟨h1, h2, h3⟩
    exact ⟨⟨h1, h2, fun m hm t => (h3 m hm t).1⟩, h1, h2, fun m hm t => (h3 m hm t).2⟩
  · intro ⟨⟨h1, h2, h3⟩, _, _, h4⟩
    exact ⟨h1, h2, fun m hm t => ⟨h3 m hm t, h4 m hm t⟩⟩
theorem gc_all (a : Nat → Int64) (p : Nat) (s : Int64) : s &&& gc_wk a p (-1) 64 = s := by
  apply gc_exti
  intro j hj
  rw [gc_and, gc_wk_b _ _ _ 64 (Nat.le_refl 64)]
  exact ⟨fun h => h.1, fun h => ⟨h, hj, fun m hm _ => gc_m1 hm⟩⟩
/-- what sequence makes -/
def gc_sq (a1 a2 : Nat → Int64) (x y c : Nat) (b1 : Nat → Int64) (S : Int64) : Prop :=
  (∀ j, j < 64 * c → b1 j = a1 j) ∧ (∀ k, k < 64 → b1 (64 * c + k) = gc_im a1 y (a1 (64 * x + k)) 64) ∧
  (∀ j, j < 64 → (gc_b S j = true ↔ gc_b (a2 x) j = true ∧ ∀ m, m < 64 → gc_b (a1 (64 * x + j)) m = true → gc_b (a2 y) m = true))
theorem gc_seq {a1 a2 : Nat → Int64} {x y c : Nat} {b1 : Nat → Int64} {S : Int64} (hx : x < c) (hy : y < c) (q : Int64) (h : gc_sq a1 a2 x y c b1 S) :
    (vp_updL a2 c S) c &&& gc_wk b1 c q 64 = (vp_updL a2 c S) x &&& gc_wk b1 x ((vp_updL a2 c S) y &&& gc_wk b1 y q 64) 64 := by
  obtain ⟨h1, h2, h3⟩ := h
  rw [pk_uLs, pk_uLn (show x ≠ c by omega), pk_uLn (show y ≠ c by omega)]
  apply gc_exti
  intro j hj
  simp only [gc_and, gc_wk_b _ _ _ 64 (Nat.le_refl 64)]
  rw [h3 j hj, h2 j hj, h1 (64 * x + j) (by omega)]
  constructor
  · intro ⟨⟨g1, g2⟩, _, g3⟩
    refine ⟨g1, hj, fun m hm t => ⟨g2 m hm t, hm, fun i hi u => ?_⟩⟩
    rw [h1 (64 * y + m) (by omega)] at u
    exact g3 i hi ((gc_im_b _ _ _ _ _).mpr ⟨m, hm, t, u⟩)
  · intro ⟨g1, _, g2⟩
    refine ⟨⟨g1, fun m hm t => (g2 m hm t).1⟩, hj, fun m hm t => ?_⟩
    obtain ⟨k, k1, k2, k3⟩ := (gc_im_b _ _ _ _ _).mp t
    exact (g2 k k1 k2).2.2 m hm (by rw [h1 (64 * y + k) (by omega)]; exact k3)
end
section
theorem gc_ix (x k : Nat) : (64 : Int32) * nI x + nI k = nI (64 * x + k) := by
  show nI 64 * nI x + nI k = _
  rw [pk_mul, nI_add]
theorem gc_ixc {x k : Nat} (hx : x < 30) (hk : k < 64) : ((64 : Int32) * nI x + nI k).toNatClampNeg = 64 * x + k := by
  rw [gc_ix, nI_clamp (by omega)]
theorem gc_ixi {x k : Nat} (hx : x < 30) (hk : k < 64) : vp_in ((64 : Int32) * nI x + nI k) 1920 := pk_in (64 * x + k) 1920 (by omega) (gc_ix x k)
theorem gc_cell {post : Int32 → Prop} {L : Nat} {xs : Nat → Int32} {p : Nat} (hp : p < 2 ^ 31) (hL : L < 2 ^ 31) (H : ∀ r, post r) : wpL_cell post L xs () (nI p) :=
  pk_le L p (fun _ => H _) (fun z => ⟨pk_in p L z, H _⟩)
theorem gc_good {post : Int32 → Prop} {c p : Nat} {a1 a2 a3 : Nat → Int64} (hp : p < c) (hc : c ≤ 30) (h : post 1) : wpX_isGood post (nI c, a1, a2, a3) (nI p) :=
  br_f (nI_pos (by omega)) (br_f (nI_ge hp (by omega)) h)
theorem gc_has {post : Int32 → Prop} {x : Int64} {k : Nat} (hk : k < 64) (h1 : gc_b x k = true → post 1) (h0 : ¬ gc_b x k = true → post 0) : wpX_has post () x (nI k) :=
  br_c (fun h => h1 ((gc_hb x hk).mp h)) (fun h => h0 (fun z => h ((gc_hb x hk).mpr z)))
theorem gc_hasT {post : Int32 → Prop} {x : Int64} {k : Int32} (h1 : post 1) (h0 : post 0) : wpX_has post () x k :=
  br_c (fun _ => h1) (fun _ => h0)
theorem gc_10 : ¬ (1 : Int32) = 0 := by decide
theorem gc_weakOf {post : Int64 → Prop} {f : Int32} {a1 a2 a3 : Nat → Int64} {p : Nat} {q : Int64} (hp : p < 30) (H : post (gc_wk a1 p q 64)) : wpX_weakOf post (f, a1, a2, a3) (nI p) q := by
  refine pk_loop (fun n i s => wX_weakOf_6 post (nI p) q f a1 a2 a3 n s (nI i)) (fun i s => s = gc_wk a1 p q i) 64 0 0 (by omega) rfl ?_ ?_
  · intro n s h
    exact pk_le 64 64 (fun _ => by rw [h]; exact H) (fun z => absurd z (by omega))
  · intro n i s hi h hw
    refine pk_le 64 i (fun z => absurd z (by omega)) (fun _ => ⟨gc_ixi hp hi, ?_⟩)
    rw [gc_ixc hp hi]
    refine br_c (fun hz => br_f gc_10 (nm_e (nm_r (nI_1 i) (hw _ ?_)))) (fun hz => br_t rfl (nm_r (nI_1 i) (hw _ ?_)))
    · show _ = gc_wk a1 p q (i + 1)
      rw [gc_wk, if_pos hz, h]
    · show _ = gc_wk a1 p q (i + 1)
      rw [gc_wk, if_neg hz, h]
theorem gc_weakDemand {post : Int64 → Prop} {c p : Nat} {a1 a2 a3 : Nat → Int64} {q : Int64} (hp : p < c) (hc : c ≤ 30) (H : post (gc_wk a1 p q 64)) : wpX_weakDemand post (nI c, a1, a2, a3) (nI p) q := by
  unfold wpX_weakDemand
  dsimp only
  exact gc_good hp hc (br_f gc_10 (gc_weakOf (by omega) H))
theorem gc_demand {post : Int64 → Prop} {c p : Nat} {a1 a2 a3 : Nat → Int64} {q : Int64} (hp : p < c) (hc : c ≤ 30) (H : post (a2 p &&& gc_wk a1 p q 64)) : wpX_demand post (nI c, a1, a2, a3) (nI p) q := by
  unfold wpX_demand
  dsimp only
  rw [nI_clamp (show p < 2 ^ 31 by omega)]
  exact gc_good hp hc (br_f gc_10 ⟨pk_in p 30 (by omega), gc_weakOf (by omega) H⟩)
theorem gc_sure {post : Int64 → Prop} {c p : Nat} {a1 a2 a3 : Nat → Int64} (hp : p < c) (hc : c ≤ 30) (H : post (a2 p)) : wpX_sure post (nI c, a1, a2, a3) (nI p) := by
  unfold wpX_sure
  dsimp only
  rw [nI_clamp (show p < 2 ^ 31 by omega)]
  exact gc_good hp hc (br_f gc_10 ⟨pk_in p 30 (by omega), H⟩)
theorem gc_refines {post : Int32 → Prop} {c p : Nat} {a1 a2 a3 : Nat → Int64} (hp : p < c) (hc : c ≤ 30) (H : post 1) : wpX_refines post (nI c, a1, a2, a3) (nI p) (nI p) := by
  unfold wpX_refines
  dsimp only
  refine gc_good hp hc (br_f gc_10 (gc_good hp hc (br_f gc_10 ?_)))
  refine pk_loop (σ := Unit) (fun n i _ => wX_refines_20 post (nI p) (nI p) (nI c) a1 a2 a3 n (nI i)) (fun _ _ => True) 64 0 () (by omega) trivial ?_ ?_
  · intro n _ _
    exact pk_le 64 64 (fun _ => H) (fun z => absurd z (by omega))
  · intro n i _ hi _ hw
    refine pk_le 64 i (fun z => absurd z (by omega)) (fun _ => ⟨pk_in p 30 (by omega), gc_has hi (fun hz => ?_) (fun hz => br_t rfl (nm_r (nI_1 i) (hw () trivial)))⟩)
    refine br_f gc_10 ⟨gc_ixi (by omega) hi, gc_ixi (by omega) hi, nm_r (gc_self _) ⟨pk_in p 30 (by omega), gc_has hi (fun _ => br_f gc_10 (br_t rfl (nm_r (nI_1 i) (hw () trivial)))) (fun hn => absurd hz hn)⟩⟩
theorem gc_ends {post : Int64 → Prop} {c p k : Nat} {a1 a2 a3 : Nat → Int64} (hp : p < c) (hc : c ≤ 30) (hk : k < 64) (H : post (a1 (64 * p + k))) : wpX_ends post (nI c, a1, a2, a3) (nI p) (nI k) := by
  unfold wpX_ends
  dsimp only
  refine gc_good hp hc (br_f gc_10 (br_f (nI_pos (by omega)) (br_f (nI_ge (b := 64) hk (by decide)) (br_f gc_10 ⟨gc_ixi (by omega) hk, ?_⟩))))
  rw [gc_ixc (by omega) hk]
  exact H
theorem gc_holds {post : Int32 → Prop} {c p : Nat} {a1 a2 a3 : Nat → Int64} {q r : Int64} (hp : p < c) (hc : c ≤ 30) (H : post 1) : wpL_holds post (nI c, a1, a2, a3) (nI p) q r := by
  unfold wpL_holds
  dsimp only
  refine gc_sure hp hc (gc_weakDemand hp hc (gc_demand hp hc (br_t (Int64.and_comm _ _) (gc_demand hp hc (gc_demand hp hc (br_t (gc_meet _ _ _ _ _) (gc_demand hp hc (br_t (gc_all _ _ _) ?_))))))))
  refine pk_loop (σ := Unit) (fun n i _ => wL_holds_76 post (nI p) q (gc_wk a1 p q 64) (nI c) a1 a2 a3 n (nI i)) (fun _ _ => True) 64 0 () (by omega) trivial ?_ ?_
  · intro n _ _
    exact pk_le 64 64 (fun _ => gc_refines hp hc (br_t rfl H)) (fun z => absurd z (by omega))
  · intro n i _ hi _ hw
    refine pk_le 64 i (fun z => absurd z (by omega)) (fun _ => gc_ends hp hc hi (br_c (fun hz => ?_) (fun hz => ?_)))
    · exact br_t ((gc_sb _ hi).mpr ((gc_wk_b a1 p q 64 (Nat.le_refl 64) i).mpr ⟨hi, (gc_sub _ _).mp hz⟩)) (br_t rfl (nm_r (nI_1 i) (hw () trivial)))
    · exact br_f (fun t => hz ((gc_sub _ _).mpr ((gc_wk_b a1 p q 64 (Nat.le_refl 64) i).mp ((gc_sb _ hi).mp t)).2)) (br_t rfl (nm_r (nI_1 i) (hw () trivial)))
end
section
theorem gc_close {post : Int32 → St1 → Prop} {c : Nat} {a1 a2 a3 : Nat → Int64} (H : post (nI c) (nI (c + 1), a1, a2, a3)) : wpX_close post (nI c, a1, a2, a3) :=
  nm_r (nI_1 c) (by rw [nI_pred]; exact H)
theorem gc_skip {post : Int32 → St1 → Prop} {c : Nat} {a1 a2 a3 : Nat → Int64} (hc : c ≤ 30) (H : ∀ r c' b1 b2 b3, c ≤ c' → 1 ≤ c' → c' ≤ 30 → post r (nI c', b1, b2, b3)) : wpX_skip post (nI c, a1, a2, a3) := by
  refine pk_eq c 30 (fun z => H _ c _ _ _ (Nat.le_refl c) (by omega) hc) (fun z => ?_)
  refine pk_loop (fun n i s => wX_skip_13 post (nI c) n (nI i) s a2 a3) (fun _ _ => True) 64 0 a1 (by omega) trivial ?_ ?_
  · intro n s _
    exact pk_le 64 64 (fun _ => ⟨pk_in c 30 (by omega), nm_e (gc_close (H _ (c + 1) _ _ _ (by omega) (by omega) (by omega)))⟩) (fun z => absurd z (by omega))
  · intro n i s hi _ hw
    exact pk_le 64 i (fun z => absurd z (by omega)) (fun _ => ⟨gc_ixi (by omega) hi, nm_e (nm_r (nI_1 i) (hw _ trivial))⟩)
theorem gc_fail {post : Int32 → St1 → Prop} {c : Nat} {a1 a2 a3 : Nat → Int64} (hc : c ≤ 30) (H : ∀ r c' b1 b2 b3, c ≤ c' → c' ≤ 30 → post r (nI c', b1, b2, b3)) : wpX_fail post (nI c, a1, a2, a3) := by
  refine pk_eq c 30 (fun z => H _ c _ _ _ (Nat.le_refl c) hc) (fun z => ?_)
  refine pk_loop (fun n i s => wX_fail_13 post (nI c) n (nI i) s a2 a3) (fun _ _ => True) 64 0 a1 (by omega) trivial ?_ ?_
  · intro n s _
    exact pk_le 64 64 (fun _ => ⟨pk_in c 30 (by omega), nm_e (gc_close (H _ (c + 1) _ _ _ (by omega) (by omega)))⟩) (fun z => absurd z (by omega))
  · intro n i s hi _ hw
    exact pk_le 64 i (fun z => absurd z (by omega)) (fun _ => ⟨gc_ixi (by omega) hi, nm_e (nm_r (nI_1 i) (hw _ trivial))⟩)
theorem gc_form {post : Int32 → Prop} {p k : Int32} (H : ∀ r, post r) : wpX_formValue post () p k := nm_e (nm_e (nm_e (H _)))
theorem gc_assign {post : Int32 → St1 → Prop} {c : Nat} {a1 a2 a3 : Nat → Int64} {p0 p1 : Int32} (hc : c ≤ 30) (H : ∀ r c' b1 b2 b3, c ≤ c' → c' ≤ 30 → post r (nI c', b1, b2, b3)) : wpX_assign post (nI c, a1, a2, a3) p0 p1 := by
  refine br_c (fun _ => H _ c _ _ _ (Nat.le_refl c) hc) (fun _ => br_c (fun _ => ?_) (fun _ => H _ c _ _ _ (Nat.le_refl c) hc))
  refine pk_eq c 30 (fun z => H _ c _ _ _ (Nat.le_refl c) hc) (fun z => ?_)
  refine pk_loop (fun n i s => wX_assign_27 post p0 p1 (nI c) n (nI i) s a2 a3) (fun _ _ => True) 64 0 a1 (by omega) trivial ?_ ?_
  · intro n s _
    exact pk_le 64 64 (fun _ => ⟨pk_in c 30 (by omega), nm_e (gc_close (H _ (c + 1) _ _ _ (by omega) (by omega)))⟩) (fun z => absurd z (by omega))
  · intro n i s hi _ hw
    exact pk_le 64 i (fun z => absurd z (by omega)) (fun _ => gc_form (fun r => br_c (fun _ => ⟨gc_ixi (by omega) hi, nm_e (nm_r (nI_1 i) (hw _ trivial))⟩) (fun _ => ⟨gc_ixi (by omega) hi, nm_e (nm_r (nI_1 i) (hw _ trivial))⟩)))
theorem gc_ones {post : Int32 → Prop} {x : Int64} (H : ∀ r, post r) : wpX_ones post () x := by
  refine pk_loop (fun n i s => wX_ones_4 post x n s (nI i)) (fun _ _ => True) 64 0 0 (by omega) trivial ?_ ?_
  · intro n s _
    exact pk_le 64 64 (fun _ => H _) (fun z => absurd z (by omega))
  · intro n i s hi _ hw
    exact pk_le 64 i (fun z => absurd z (by omega)) (fun _ => nm_e (nm_r (nI_1 i) (hw _ trivial)))
theorem gc_oppose {post : Int32 → St1 → Prop} {c : Nat} {a1 a2 a3 : Nat → Int64} {p0 : Int32} (hc : c ≤ 30) (H : ∀ r c' b1 b2 b3, c ≤ c' → c' ≤ 30 → post r (nI c', b1, b2, b3)) : wpX_oppose post (nI c, a1, a2, a3) p0 :=
  br_c (fun _ => ⟨pk_in 0 2 (by omega), pk_in 0 2 (by omega), nm_e ⟨pk_in 0 2 (by omega), gc_ones (fun r => H r c _ _ _ (Nat.le_refl c) hc)⟩⟩)
    (fun _ => ⟨pk_in 1 2 (by omega), pk_in 1 2 (by omega), nm_e ⟨pk_in 1 2 (by omega), gc_ones (fun r => H r c _ _ _ (Nat.le_refl c) hc)⟩⟩)
theorem gc_guard {post : Int32 → St1 → Prop} {c : Nat} {a1 a2 a3 : Nat → Int64} {p0 : Int32} {p1 : Int64} (hc : c ≤ 30) (H : ∀ r c' b1 b2 b3, c ≤ c' → c' ≤ 30 → post r (nI c', b1, b2, b3)) : wpX_guard post (nI c, a1, a2, a3) p0 p1 :=
  br_c (fun _ => ⟨pk_in 0 2 (by omega), nm_e (gc_ones (fun r => H r c _ _ _ (Nat.le_refl c) hc))⟩)
    (fun _ => ⟨pk_in 1 2 (by omega), nm_e (gc_ones (fun r => H r c _ _ _ (Nat.le_refl c) hc))⟩)
theorem gc_compare {post : Int32 → St1 → Prop} {c : Nat} {a1 a2 a3 : Nat → Int64} {p0 p1 p2 : Int32} (hc : c ≤ 30) (H : ∀ r c' b1 b2 b3, c ≤ c' → c' ≤ 30 → post r (nI c', b1, b2, b3)) : wpX_compare post (nI c, a1, a2, a3) p0 p1 p2 := by
  refine br_c (fun _ => H _ c _ _ _ (Nat.le_refl c) hc) (fun _ => br_c (fun _ => br_c (fun _ => H _ c _ _ _ (Nat.le_refl c) hc) (fun _ => br_c (fun _ => ?_) (fun _ => H _ c _ _ _ (Nat.le_refl c) hc))) (fun _ => H _ c _ _ _ (Nat.le_refl c) hc))
  refine pk_loop (fun n i s => wX_compare_32 post p0 p1 p2 (nI c) a1 a2 a3 n s (nI i)) (fun _ _ => True) 64 0 0 (by omega) trivial ?_ ?_
  · intro n s _
    exact pk_le 64 64 (fun _ => br_c (fun _ => ⟨pk_in 0 2 (by omega), nm_e (gc_ones (fun r => H r c _ _ _ (Nat.le_refl c) hc))⟩) (fun _ => ⟨pk_in 1 2 (by omega), nm_e (gc_ones (fun r => H r c _ _ _ (Nat.le_refl c) hc))⟩)) (fun z => absurd z (by omega))
  · intro n i s hi _ hw
    exact pk_le 64 i (fun z => absurd z (by omega)) (fun _ => gc_form (fun r => br_c (fun _ => nm_r (nI_1 i) (hw _ trivial)) (fun _ => nm_e (nm_r (nI_1 i) (hw _ trivial)))))
/-- step, whatever it answers -/
theorem gc_step28 {post : Int64 → Prop} {f : Int32} {a1 a2 a3 : Nat → Int64} {y k : Nat} {z : Int64} (hy : y < 30) (hk : k < 64) (H : ∀ r, post r) : wX_step_28 post (nI y) (nI k) z f a1 a2 a3 := by
  unfold wX_step_28
  exact gc_hasT (br_f gc_10 ⟨gc_ixi hy hk, H _⟩) (br_t rfl (H _))
theorem gc_step {post : Int64 → Prop} {f : Int32} {a1 a2 a3 : Nat → Int64} {x y k : Nat} (hx : x < 30) (hy : y < 30) (hk : k < 64) (H : ∀ r, post r) : wpX_step post (f, a1, a2, a3) (nI x) (nI y) (nI k) := by
  unfold wpX_step
  dsimp only
  exact gc_hasT (br_f gc_10 ⟨gc_ixi hx hk, gc_step28 hy hk H⟩) (br_t rfl (gc_step28 hy hk H))
theorem gc_choice {post : Int32 → St1 → Prop} {c x y : Nat} {a1 a2 a3 : Nat → Int64} (hx : x < c) (hy : y < c) (hc : c ≤ 30) (H : ∀ r c' b1 b2 b3, c ≤ c' → c' ≤ 30 → post r (nI c', b1, b2, b3)) : wpX_choice post (nI c, a1, a2, a3) (nI x) (nI y) := by
  unfold wpX_choice
  dsimp only
  refine gc_good hx hc (br_f gc_10 (gc_good hy hc (br_f gc_10 ?_)))
  refine pk_eq c 30 (fun z => H _ c _ _ _ (Nat.le_refl c) hc) (fun z => nm_e ⟨pk_in x 30 (by omega), pk_in y 30 (by omega), fun S _ => ?_⟩)
  refine pk_loop (fun n i s => wX_choice_85 post (nI x) (nI y) S (nI c) n (nI i) s a2 a3) (fun _ _ => True) 64 0 a1 (by omega) trivial ?_ ?_
  · intro n s _
    exact pk_le 64 64 (fun _ => ⟨pk_in c 30 (by omega), nm_e (gc_close (H _ (c + 1) _ _ _ (by omega) (by omega)))⟩) (fun z => absurd z (by omega))
  · intro n i s hi _ hw
    exact pk_le 64 i (fun z => absurd z (by omega)) (fun _ => gc_step (by omega) (by omega) hi (fun r => ⟨gc_ixi (by omega) hi, nm_e (nm_r (nI_1 i) (hw _ trivial))⟩))
/-- reached: its rounds are counted -/
theorem gc_r44 {post : Int64 → Prop} {J11 : Int64 → Int64 → Int32 → Prop} {f : Int32} {a1 a2 a3 : Nat → Int64} {x y k : Nat} {x4 x6 x9 : Int64} (hx : x < 30) (hy : y < 30) (H : ∀ s, J11 s x6 (nI (k + 1))) : ∃ n, wX_reached_44 post J11 (nI x) (nI y) x6 (nI k) x9 f a1 a2 a3 n x4 0 := by
  refine pk_loop (fun n i s => wX_reached_44 post J11 (nI x) (nI y) x6 (nI k) x9 f a1 a2 a3 n s (nI i)) (fun _ _ => True) 64 0 x4 (by omega) trivial ?_ ?_
  · intro n s _
    exact pk_le 64 64 (fun _ => nm_r (nI_1 k) (H _)) (fun z => absurd z (by omega))
  · intro n i s hi _ hw
    exact pk_le 64 i (fun z => absurd z (by omega)) (fun _ => gc_hasT (br_f gc_10 (gc_step hx hy hi (fun r => nm_e (nm_r (nI_1 i) (hw _ trivial))))) (br_t rfl (nm_r (nI_1 i) (hw _ trivial))))
theorem gc_reached {post : Int64 → Prop} {f : Int32} {a1 a2 a3 : Nat → Int64} {x y : Nat} {k : Int32} (hx : x < 30) (hy : y < 30) (H : ∀ r, post r) : wpX_reached post (f, a1, a2, a3) (nI x) (nI y) k := by
  refine nm_e ?_
  refine pk_loop (σ := Int64 × Int64) (fun n i s => wX_reached_11 post (nI x) (nI y) f a1 a2 a3 n s.1 s.2 (nI i)) (fun _ _ => True) 65 0 (_, 0) (by omega) trivial ?_ ?_
  · intro n s _
    exact pk_lt 64 65 (fun _ => H _) (fun z => absurd z (by omega))
  · intro n i s hi _ hw
    exact pk_lt 64 i (fun z => absurd z (by omega)) (fun _ => br_c (fun _ => H _) (fun _ => nm_e (gc_r44 hx hy (fun t => hw (t, s.1) trivial))))
/-- loopSure: its rounds are counted -/
theorem gc_l129 {post : Int64 → Prop} {J9 J27 : Int64 → Int32 → Int32 → Prop} {f x1 x2 x7 x8 x10 x11 z0 : Int32} {x5 : Int64} {a1 a2 a3 : Nat → Int64} {i : Nat} (H : ∀ s t, J27 s t (nI (i + 1))) : wX_loopSure_129 post J9 J27 x1 x2 x5 x7 x8 (nI i) x10 x11 z0 f a1 a2 a3 := by
  unfold wX_loopSure_129
  exact gc_hasT (br_f gc_10 (nm_r (nI_1 i) (H _ _))) (br_t rfl (br_c (fun _ => nm_r (nI_1 i) (H _ _)) (fun _ => br_c (fun _ => nm_r (nI_1 i) (H _ _)) (fun _ => br_c (fun _ => nm_r (nI_1 i) (H _ _)) (fun _ => nm_e (nm_r (nI_1 i) (H _ _)))))))
theorem gc_l102 {post : Int64 → Prop} {J9 J27 : Int64 → Int32 → Int32 → Prop} {f x7 x8 x10 z0 : Int32} {x5 : Int64} {a1 a2 a3 : Nat → Int64} {x y i : Nat} (hx : x < 30) (hy : y < 30) (hi : i < 64) (H : ∀ s t, J27 s t (nI (i + 1))) : wX_loopSure_102 post J9 J27 (nI x) (nI y) x5 x7 x8 (nI i) x10 z0 f a1 a2 a3 := by
  unfold wX_loopSure_102
  exact gc_step hx hy hi (fun r => br_c (fun _ => gc_l129 H) (fun _ => gc_l129 H))
theorem gc_l67 {post : Int64 → Prop} {J9 J27 : Int64 → Int32 → Int32 → Prop} {f x7 x8 z0 : Int32} {x5 : Int64} {a1 a2 a3 : Nat → Int64} {x y i : Nat} (hx : x < 30) (hy : y < 30) (hi : i < 64) (H : ∀ s t, J27 s t (nI (i + 1))) : wX_loopSure_67 post J9 J27 (nI x) (nI y) x5 x7 x8 (nI i) z0 f a1 a2 a3 := by
  unfold wX_loopSure_67 wX_loopSure_97
  exact gc_hasT (br_f gc_10 ⟨pk_in y 30 hy, gc_hasT (br_f gc_10 (gc_l102 hx hy hi H)) (br_t rfl (gc_l102 hx hy hi H))⟩) (br_t rfl (gc_l102 hx hy hi H))
theorem gc_l62 {post : Int64 → Prop} {J9 J27 : Int64 → Int32 → Int32 → Prop} {f x7 x8 : Int32} {x5 : Int64} {a1 a2 a3 : Nat → Int64} {x y i : Nat} (hx : x < 30) (hy : y < 30) (hi : i < 64) (H : ∀ s t, J27 s t (nI (i + 1))) : wX_loopSure_62 post J9 J27 (nI x) (nI y) x5 x7 x8 (nI i) f a1 a2 a3 := by
  unfold wX_loopSure_62
  exact gc_l67 hx hy hi H
theorem gc_l27 {post : Int64 → Prop} {J9 : Int64 → Int32 → Int32 → Prop} {f : Int32} {a1 a2 a3 : Nat → Int64} {x y k : Nat} {x5 : Int64} {x7 : Int32} (hx : x < 30) (hy : y < 30) (H : ∀ s t, J9 s t (nI (k + 1))) : ∃ n, wX_loopSure_27 post J9 (nI x) (nI y) (nI k) f a1 a2 a3 n x5 x7 0 := by
  refine pk_loop (σ := Int64 × Int32) (fun n i s => wX_loopSure_27 post J9 (nI x) (nI y) (nI k) f a1 a2 a3 n s.1 s.2 (nI i)) (fun _ _ => True) 64 0 (x5, x7) (by omega) trivial ?_ ?_
  · intro n s _
    exact pk_le 64 64 (fun _ => nm_r (nI_1 k) (H _ _)) (fun z => absurd z (by omega))
  · intro n i s hi _ hw
    have hJ : ∀ s t, wX_loopSure_27 post J9 (nI x) (nI y) (nI k) f a1 a2 a3 n s t (nI (i + 1)) := fun s t => hw (s, t) trivial
    exact pk_le 64 i (fun z => absurd z (by omega)) (fun _ => gc_hasT (br_f gc_10 ⟨pk_in x 30 hx, gc_hasT (br_f gc_10 (gc_l62 hx hy hi hJ)) (br_t rfl (gc_l67 hx hy hi hJ))⟩) (br_t rfl (gc_l62 hx hy hi hJ)))
theorem gc_loopSure {post : Int64 → Prop} {f : Int32} {a1 a2 a3 : Nat → Int64} {x y : Nat} {w : Int64} (hx : x < 30) (hy : y < 30) (H : ∀ r, post r) : wpX_loopSure post (f, a1, a2, a3) (nI x) (nI y) w := by
  refine pk_loop (σ := Int64 × Int32) (fun n i s => wX_loopSure_9 post (nI x) (nI y) f a1 a2 a3 n s.1 s.2 (nI i)) (fun _ _ => True) 65 0 (w, 1) (by omega) trivial ?_ ?_
  · intro n s _
    exact pk_lt 64 65 (fun _ => H _) (fun z => absurd z (by omega))
  · intro n i s hi _ hw
    exact pk_lt 64 i (fun z => absurd z (by omega)) (fun _ => br_c (fun _ => H _) (fun _ => gc_l27 hx hy (fun s t => hw (s, t) trivial)))
theorem gc_loop {post : Int32 → St1 → Prop} {c x y : Nat} {a1 a2 a3 : Nat → Int64} (hx : x < c) (hy : y < c) (hc : c ≤ 30) (H : ∀ r c' b1 b2 b3, c ≤ c' → c' ≤ 30 → post r (nI c', b1, b2, b3)) : wpX_loop post (nI c, a1, a2, a3) (nI x) (nI y) := by
  unfold wpX_loop
  dsimp only
  refine gc_good hx hc (br_f gc_10 (gc_good hy hc (br_f gc_10 ?_)))
  refine pk_eq c 30 (fun z => H _ c _ _ _ (Nat.le_refl c) hc) (fun z => fun S _ => ?_)
  refine pk_loop (fun n i s => wX_loop_51 post (nI x) (nI y) S (nI c) n (nI i) s a2 a3) (fun _ _ => True) 64 0 a1 (by omega) trivial ?_ ?_
  · intro n s _
    exact pk_le 64 64 (fun _ => gc_loopSure (by omega) (by omega) (fun r => ⟨pk_in c 30 (by omega), nm_e (gc_close (H _ (c + 1) _ _ _ (by omega) (by omega)))⟩)) (fun z => absurd z (by omega))
  · intro n i s hi _ hw
    exact pk_le 64 i (fun z => absurd z (by omega)) (fun _ => gc_reached (by omega) (by omega) (fun r => ⟨gc_ixi (by omega) hi, nm_e (nm_r (nI_1 i) (hw _ trivial))⟩))
theorem gc_imageOf {post : Int64 → Prop} {f : Int32} {a1 a2 a3 : Nat → Int64} {p : Nat} {m : Int64} (hp : p < 30) (H : post (gc_im a1 p m 64)) : wpX_imageOf post (f, a1, a2, a3) (nI p) m := by
  refine pk_loop (fun n i s => wX_imageOf_6 post (nI p) m f a1 a2 a3 n s (nI i)) (fun i s => s = gc_im a1 p m i) 64 0 0 (by omega) rfl ?_ ?_
  · intro n s h
    exact pk_le 64 64 (fun _ => by rw [h]; exact H) (fun z => absurd z (by omega))
  · intro n i s hi h hw
    refine pk_le 64 i (fun z => absurd z (by omega)) (fun _ => gc_has hi (fun hz => br_f gc_10 ⟨gc_ixi hp hi, nm_e (nm_r (nI_1 i) (hw _ ?_))⟩) (fun hz => br_t rfl (nm_r (nI_1 i) (hw _ ?_))))
    · show _ = gc_im a1 p m (i + 1)
      rw [gc_im, if_pos hz, h, gc_ixc hp hi]
    · show _ = gc_im a1 p m (i + 1)
      rw [gc_im, if_neg hz, h]
end
section
/-- sequence's loop at i: what has been stored, and the sure states so far -/
def gc_I (a1 a2 : Nat → Int64) (x y c i : Nat) (b1 : Nat → Int64) (S : Int64) : Prop :=
  (∀ j, j < 64 * c → b1 j = a1 j) ∧ (∀ k, k < i → b1 (64 * c + k) = gc_im a1 y (a1 (64 * x + k)) 64) ∧
  (∀ j, j < 64 → (gc_b S j = true ↔ j < i ∧ gc_b (a2 x) j = true ∧ ∀ m, m < 64 → gc_b (a1 (64 * x + j)) m = true → gc_b (a2 y) m = true))
theorem gc_I0 (a1 a2 : Nat → Int64) (x y c : Nat) : gc_I a1 a2 x y c 0 a1 0 :=
  ⟨fun _ _ => rfl, fun k hk => absurd hk (by omega), fun j _ => ⟨fun h => absurd h (gc_0 j), fun h => absurd h.1 (by omega)⟩⟩
theorem gc_Ie {a1 a2 : Nat → Int64} {x y c : Nat} {b1 : Nat → Int64} {S : Int64} (h : gc_I a1 a2 x y c 64 b1 S) : gc_sq a1 a2 x y c b1 S :=
  ⟨h.1, h.2.1, fun j hj => ⟨fun t => ((h.2.2 j hj).mp t).2, fun t => (h.2.2 j hj).mpr ⟨hj, t⟩⟩⟩
theorem gc_Ia {a1 a2 : Nat → Int64} {x y c i : Nat} {b1 : Nat → Int64} {S T : Int64} (h : gc_I a1 a2 x y c i b1 S)
    (hT : ∀ j, j < 64 → (gc_b T j = true ↔ gc_b S j = true ∨ (j = i ∧ gc_b (a2 x) j = true ∧ ∀ m, m < 64 → gc_b (a1 (64 * x + j)) m = true → gc_b (a2 y) m = true))) :
    gc_I a1 a2 x y c (i + 1) (vp_updL b1 (64 * c + i) (gc_im a1 y (a1 (64 * x + i)) 64)) T := by
  obtain ⟨h1, h2, h3⟩ := h
  refine ⟨fun j hj => ?_, fun k hk => ?_, fun j hj => ?_⟩
  · rw [pk_uLn (by omega)]
    exact h1 j hj
  · by_cases e : k = i
    · rw [e, pk_uLs]
    · rw [pk_uLn (by omega)]
      exact h2 k (by omega)
  · rw [hT j hj, h3 j hj]
    constructor
    · intro t
      cases t with
      | inl t => exact ⟨by omega, t.2⟩
      | inr t => exact ⟨by omega, t.2⟩
    · intro t
      by_cases e : j = i
      · exact Or.inr ⟨e, t.2⟩
      · exact Or.inl ⟨by omega, t.2⟩
theorem gc_no {S : Int64} {i : Nat} {P : Nat → Prop} (hn : ¬ P i) : ∀ j, j < 64 → (gc_b (S ||| 0) j = true ↔ gc_b S j = true ∨ (j = i ∧ P j)) := by
  intro j hj
  rw [gc_or]
  constructor
  · intro h
    cases h with
    | inl h => exact Or.inl h
    | inr h => exact absurd h (gc_0 j)
  · intro h
    cases h with
    | inl h => exact Or.inl h
    | inr h => obtain ⟨e, h⟩ := h; subst e; exact absurd h hn
theorem gc_yes {S : Int64} {i : Nat} {P : Nat → Prop} (hi : i < 64) (hy : P i) : ∀ j, j < 64 → (gc_b (S ||| ((1 : Int64) <<< ((nI i).toInt64 &&& 63))) j = true ↔ gc_b S j = true ∨ (j = i ∧ P j)) := by
  intro j hj
  rw [gc_or, gc_one hi]
  constructor
  · intro h
    cases h with
    | inl h => exact Or.inl h
    | inr h => subst h; exact Or.inr ⟨rfl, hy⟩
  · intro h
    cases h with
    | inl h => exact Or.inl h
    | inr h => exact Or.inr h.1.symm
theorem gc_sequence {post : Int32 → St1 → Prop} {c x y : Nat} {a1 a2 a3 : Nat → Int64} (hx : x < c) (hy : y < c) (hc : c ≤ 30)
    (H0 : post (-2) (nI c, a1, a2, a3))
    (H1 : c < 30 → ∀ b1 S, gc_sq a1 a2 x y c b1 S → post (nI c) (nI (c + 1), b1, vp_updL a2 c S, a3)) : wpX_sequence post (nI c, a1, a2, a3) (nI x) (nI y) := by
  unfold wpX_sequence
  dsimp only
  refine gc_good hx hc (br_f gc_10 (gc_good hy hc (br_f gc_10 ?_)))
  refine pk_eq c 30 (fun z => H0) (fun z => ?_)
  refine pk_loop (σ := Int64 × (Nat → Int64)) (fun n i s => wX_sequence_35 post (nI x) (nI y) (nI c) n s.1 (nI i) s.2 a2 a3) (fun i s => gc_I a1 a2 x y c i s.2 s.1) 64 0 (0, a1) (by omega) (gc_I0 a1 a2 x y c) ?_ ?_
  · intro n s h
    refine pk_le 64 64 (fun _ => ⟨pk_in c 30 (by omega), nm_r (by rw [nI_clamp (by omega)]) (gc_close (H1 (by omega) _ _ (gc_Ie h)))⟩) (fun z => absurd z (by omega))
  · intro n i s hi h hw
    refine pk_le 64 i (fun z => absurd z (by omega)) (fun _ => ⟨gc_ixi (by omega) hi, nm_r (e' := a1 (64 * x + i)) (by rw [gc_ixc (by omega) hi]; exact h.1 _ (by omega)) ?_⟩)
    refine gc_imageOf (by omega) ⟨gc_ixi (by omega) hi, nm_r (e' := vp_updL s.2 (64 * c + i) (gc_im a1 y (a1 (64 * x + i)) 64)) (by rw [gc_ixc (by omega) hi, gc_im_c _ hy h.1 64 (Nat.le_refl 64)]) ⟨pk_in x 30 (by omega), ?_⟩⟩
    rw [nI_clamp (show x < 2 ^ 31 by omega), nI_clamp (show y < 2 ^ 31 by omega)]
    refine gc_has hi (fun hz => br_f gc_10 ⟨pk_in y 30 (by omega), br_c (fun hs => ?_) (fun hs => ?_)⟩) (fun hz => ?_)
    · exact br_f gc_10 (nm_e (nm_r (nI_1 i) (hw (_, _) (gc_Ia h (gc_yes (P := fun j => gc_b (a2 x) j = true ∧ ∀ m, m < 64 → gc_b (a1 (64 * x + j)) m = true → gc_b (a2 y) m = true) hi ⟨hz, (gc_sub _ _).mp hs⟩)))))
    · exact br_t rfl (nm_e (nm_r (nI_1 i) (hw (_, _) (gc_Ia h (gc_no (P := fun j => gc_b (a2 x) j = true ∧ ∀ m, m < 64 → gc_b (a1 (64 * x + j)) m = true → gc_b (a2 y) m = true) (fun t => hs ((gc_sub _ _).mpr t.2)))))))
    · exact br_t rfl (br_t rfl (nm_e (nm_r (nI_1 i) (hw (_, _) (gc_Ia h (gc_no (P := fun j => gc_b (a2 x) j = true ∧ ∀ m, m < 64 → gc_b (a1 (64 * x + j)) m = true → gc_b (a2 y) m = true) (fun t => hz t.1)))))))
end
section
theorem gc_rem (v : Int32) {n : Nat} (h0 : 1 ≤ n) (h : n ≤ 30) : ∃ x, x < n ∧ (v &&& 31) - (v &&& 31) / nI n * nI n = nI x := by
  obtain ⟨j, hj, e⟩ := pk_andE v (m := 31) 5 (by decide)
  rw [e]
  exact ⟨j % n, Nat.mod_lt _ (by omega), pk_rem (by omega) (by omega) (by omega)⟩
theorem gc_294 {L : Nat} {xs : Nat → Int32} {J15 : Int32 → Int32 → (Nat → Int64) → (Nat → Int64) → (Nat → Int64) → Prop} {i n c : Nat} {x3 x4 : Int32} {x9 : Int64} {kc ks : Nat} {a1 a2 a3 : Nat → Int64}
    (h0 : 1 ≤ n) (hn : n ≤ c) (hc : c ≤ 30) (H : ∀ c b1 b2 b3, 1 ≤ c → c ≤ 30 → J15 (nI (i + 2)) (nI c) b1 b2 b3) :
    wL_law_294 (fun r => r = 1) L xs J15 (nI i) x3 x4 (nI n) x9 kc ks (nI c) a1 a2 a3 := by
  unfold wL_law_294
  refine ⟨nI_ne0 (by omega) (by omega), ?_⟩
  obtain ⟨p, hp, e⟩ := gc_rem (x3 >>> ((14 : Int32) &&& 31)) h0 (show n ≤ 30 by omega)
  refine nm_r e ?_
  unfold wpL_condition
  dsimp only
  refine gc_holds (show p < c by omega) hc (br_f gc_10 (nm_r (nI_add i 2) (H c a1 a2 a3 (by omega) hc)))
theorem gc_law {L : Nat} {xs : Nat → Int32} {kc ks : Nat} {c : Nat} {a1 a2 a3 : Nat → Int64} (hL : L ≤ 260) (h1 : 1 ≤ c) (hc : c ≤ 30) : ∃ n, wL_law_15 (fun r => r = 1) L xs kc ks n 0 (nI c) a1 a2 a3 := by
  refine loop_m (σ := Nat × Nat × (Nat → Int64) × (Nat → Int64) × (Nat → Int64)) (fun n s => wL_law_15 (fun r => r = 1) L xs kc ks n (nI s.1) (nI s.2.1) s.2.2.1 s.2.2.2.1 s.2.2.2.2) (fun s => s.1 ≤ 262 ∧ 1 ≤ s.2.1 ∧ s.2.1 ≤ 30) (fun s => 300 - s.1) ?_ (0, c, a1, a2, a3) ⟨by omega, h1, hc⟩
  intro n s hI hw
  obtain ⟨i, c, a1, a2, a3⟩ := s
  obtain ⟨hi, h1, hc⟩ := hI
  dsimp only at hi h1 hc
  have hi2 : i < 2 ^ 31 := by omega
  refine pk_le L i (fun _ => rfl) (fun hl => ?_)
  have hJ : ∀ c b1 b2 b3, 1 ≤ c → c ≤ 30 → wL_law_15 (fun r => r = 1) L xs kc ks n (nI (i + 2)) (nI c) b1 b2 b3 := fun c b1 b2 b3 g1 g2 => hw (i + 2, c, b1, b2, b3) ⟨by show i + 2 ≤ 262; omega, g1, g2⟩ (by show 300 - (i + 2) < 300 - i; omega)
  have hK : ∀ (x3 x4 : Int32) (x9 : Int64) (c' : Nat) (b1 b2 b3 : Nat → Int64), c ≤ c' → c' ≤ 30 → wL_law_294 (fun r => r = 1) L xs (wL_law_15 (fun r => r = 1) L xs kc ks n) (nI i) x3 x4 (nI c) x9 kc ks (nI c') b1 b2 b3 := fun x3 x4 x9 c' b1 b2 b3 g1 g2 => gc_294 h1 g1 g2 hJ
  refine gc_cell hi2 (by omega) (fun u => ?_)
  rw [nI_1]
  refine gc_cell (by omega) (by omega) (fun v => nm_e ?_)
  unfold wpX_programs
  dsimp only
  obtain ⟨x, hx, ex⟩ := gc_rem (u >>> ((4 : Int32) &&& 31)) h1 hc
  obtain ⟨y, hy, ey⟩ := gc_rem (u >>> ((9 : Int32) &&& 31)) h1 hc
  refine ⟨nI_ne0 (by omega) (by omega), nm_r ex ⟨nI_ne0 (by omega) (by omega), nm_r ey ?_⟩⟩
  unfold wpL_condition
  dsimp only
  refine br_c (fun _ => br_c (fun _ => ?_) (fun _ => br_c (fun _ => ?_) (fun _ => br_c (fun _ => br_c (fun _ => ?_) (fun _ => ?_)) (fun _ => br_c (fun _ => br_c (fun _ => br_c (fun _ => ?_) (fun _ => ?_)) (fun _ => ?_)) (fun _ => ?_))))) (fun _ => ⟨by decide, ?_⟩)
  · exact gc_guard hc (fun _ _ _ _ _ g1 g2 => hK _ _ _ _ _ _ _ g1 g2)
  · exact gc_oppose hc (fun _ _ _ _ _ g1 g2 => hK _ _ _ _ _ _ _ g1 g2)
  · exact gc_fail hc (fun _ _ _ _ _ g1 g2 => hK _ _ _ _ _ _ _ g1 g2)
  · exact gc_skip hc (fun _ _ _ _ _ g1 _ g2 => hK _ _ _ _ _ _ _ g1 g2)
  · exact gc_loop hx hy hc (fun _ _ _ _ _ g1 g2 => hK _ _ _ _ _ _ _ g1 g2)
  · exact gc_choice hx hy hc (fun _ _ _ _ _ g1 g2 => hK _ _ _ _ _ _ _ g1 g2)
  · refine gc_sequence hx hy hc (br_t (by decide) ?_) (fun hc3 b1 S hS => br_f (nI_pos (by omega)) ?_)
    · unfold wL_law_263
      exact hK _ _ _ _ _ _ _ (Nat.le_refl c) hc
    · refine gc_demand (c := c + 1) (by omega) (by omega) (gc_demand (c := c + 1) (by omega) (by omega) (gc_demand (c := c + 1) (by omega) (by omega) (br_t (gc_seq hx hy _ hS) ?_)))
      unfold wL_law_263
      exact hK _ _ _ _ _ _ _ (by omega) (by omega)
  · exact gc_assign hc (fun _ _ _ _ _ g1 g2 => hK _ _ _ _ _ _ _ g1 g2)
  · exact gc_compare hc (fun _ _ _ _ _ g1 g2 => hK _ _ _ _ _ _ _ g1 g2)
theorem i_vc (xs : Nat → Int32) (L : Nat) (hL : L ≤ 260) : wpL_law (fun r => r = 1) L xs := by
  refine ⟨3, 1952, by decide, by decide, by decide, by decide, by decide, by decide, by decide, by decide, ?_⟩
  exact gc_skip (c := 0) (by decide) (fun _ _ _ _ _ _ g1 g2 => gc_law hL g1 g2)
end
