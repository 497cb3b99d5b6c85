section
/-- bit i of a long -/
def pc_b (x : Int64) (i : Nat) : Bool := x.toBitVec.getLsbD i
/-- the counter of lane i, out of four planes -/
def pc_c (p : Nat → Int64) (i : Nat) : Nat := (pc_b (p 0) i).toNat + 2 * (pc_b (p 1) i).toNat + 4 * (pc_b (p 2) i).toNat + 8 * (pc_b (p 3) i).toNat
/-- 1 for a count of 8 or more -/
def pc_e (n : Nat) : Nat := if 8 ≤ n then 1 else 0
/-- how many of the first n lanes hold 8 or more -/
def pc_h (g : Nat → Nat) : Nat → Nat
  | 0 => 0
  | n + 1 => pc_h g n + pc_e (g n)
/-- the counter of lane i behind a tally of m -/
def pc_n (m : Int64) (g : Nat → Nat) (i : Nat) : Nat := if pc_b m i = true then (if 15 ≤ g i then g i else g i + 1) else g i
/-- the lanes below L told, the others not yet -/
def pc_m (m : Int64) (g : Nat → Nat) (L : Nat) (i : Nat) : Nat := if i < L then pc_n m g i else g i
theorem pc_and (x y : Int64) (i : Nat) : pc_b (x &&& y) i = (pc_b x i && pc_b y i) := by unfold pc_b; rw [Int64.toBitVec_and, BitVec.getLsbD_and]
theorem pc_or (x y : Int64) (i : Nat) : pc_b (x ||| y) i = (pc_b x i || pc_b y i) := by unfold pc_b; rw [Int64.toBitVec_or, BitVec.getLsbD_or]
theorem pc_xor (x y : Int64) (i : Nat) : pc_b (x ^^^ y) i = (pc_b x i ^^ pc_b y i) := by unfold pc_b; rw [Int64.toBitVec_xor, BitVec.getLsbD_xor]
theorem pc_0 (i : Nat) : pc_b 0 i = false := BitVec.getLsbD_zero
theorem pc_m1 : ∀ i, i < 64 → pc_b (-1) i = true := by decide +kernel
theorem pc_ext {x y : Int64} (h : ∀ i, i < 64 → pc_b x i = pc_b y i) : x = y := Int64.toBitVec_inj.mp (BitVec.eq_of_getLsbD_eq (fun i hi => h i hi))
theorem pc_tp : ∀ k, k < 64 → ((1 : Int64) <<< ((nI k).toInt64 &&& 63)).toBitVec = BitVec.twoPow 64 k := by decide +kernel
theorem pc_one {k : Nat} (hk : k < 64) (i : Nat) : pc_b ((1 : Int64) <<< ((nI k).toInt64 &&& 63)) i = decide (k = i) := by
  unfold pc_b
  rw [pc_tp k hk, BitVec.getLsbD_twoPow]
  simp [hk]
theorem pc_cu : ∀ k, k < 64 → ((nI k).toInt64.toUInt64 &&& Int64.toUInt64 63).toNat = k := by decide +kernel
/-- one bit of a long, shifted down -/
theorem pc_bit (w : Int64) {k : Nat} (hk : k < 64) : ((w.toUInt64 >>> ((nI k).toInt64.toUInt64 &&& Int64.toUInt64 63)).toInt64 &&& 1) = if pc_b w k = true then 1 else 0 := by
  have hs := pc_cu k hk
  generalize (nI k).toInt64.toUInt64 &&& Int64.toUInt64 63 = s at hs
  have e : (w.toUInt64 >>> s).toInt64.toBitVec = w.toBitVec >>> k := by
    apply BitVec.eq_of_toNat_eq
    show (w.toUInt64 >>> s).toNat = _
    rw [UInt64.toNat_shiftRight, hs, Nat.mod_eq_of_lt hk, BitVec.toNat_ushiftRight]
    rfl
  apply Int64.toBitVec_inj.mp
  rw [Int64.toBitVec_and, e]
  show w.toBitVec >>> k &&& 1#64 = _
  rw [BitVec.and_one_eq_setWidth_ofBool_getLsbD, BitVec.getLsbD_ushiftRight, Nat.add_zero]
  unfold pc_b
  cases w.toBitVec.getLsbD k <;> decide
theorem pc_lt (p : Nat → Int64) (i : Nat) : pc_c p i ≤ 15 := by
  unfold pc_c
  cases pc_b (p 0) i <;> cases pc_b (p 1) i <;> cases pc_b (p 2) i <;> cases pc_b (p 3) i <;> decide
theorem pc_top (p : Nat → Int64) (i : Nat) : pc_e (pc_c p i) = (pc_b (p 3) i).toNat := by
  unfold pc_c
  cases pc_b (p 0) i <;> cases pc_b (p 1) i <;> cases pc_b (p 2) i <;> cases pc_b (p 3) i <;> decide
theorem pc_hle (g : Nat → Nat) : ∀ n, pc_h g n ≤ n := by
  intro n
  induction n with
  | zero => exact Nat.le_refl 0
  | succ n ih =>
    have : pc_e (g n) ≤ 1 := by unfold pc_e; split <;> omega
    show pc_h g n + pc_e (g n) ≤ n + 1
    omega
theorem pc_hc {f g : Nat → Nat} : ∀ n, (∀ i, i < n → f i = g i) → pc_h f n = pc_h g n := by
  intro n
  induction n with
  | zero => intro _; rfl
  | succ n ih =>
    intro h
    show pc_h f n + pc_e (f n) = pc_h g n + pc_e (g n)
    rw [ih (fun i hi => h i (by omega)), h n (by omega)]
/-- one lane changes -/
theorem pc_hu {f g : Nat → Nat} {L : Nat} (h : ∀ i, i ≠ L → f i = g i) : ∀ n, L < n → pc_h f n + pc_e (g L) = pc_h g n + pc_e (f L) := by
  intro n
  induction n with
  | zero => intro hL; exact absurd hL (by omega)
  | succ n ih =>
    intro hL
    show pc_h f n + pc_e (f n) + pc_e (g L) = pc_h g n + pc_e (g n) + pc_e (f L)
    by_cases e : L = n
    · subst e
      rw [pc_hc L (fun i hi => h i (by omega))]
      omega
    · have := ih (by omega)
      rw [h n (fun z => e z.symm)]
      omega
theorem pc_h0 : ∀ n, pc_h (pc_c (fun _ => 0)) n = 0 := by
  intro n
  induction n with
  | zero => rfl
  | succ n ih =>
    show pc_h _ n + pc_e (pc_c (fun _ => 0) n) = 0
    rw [ih, pc_top, pc_0]
    rfl
theorem pc_m0 (m : Int64) (g : Nat → Nat) : pc_m m g 0 = g := by
  funext i
  exact if_neg (by omega)
theorem pc_mL (m : Int64) (g : Nat → Nat) (L : Nat) : pc_m m g L L = g L := if_neg (by omega)
theorem pc_ms (m : Int64) (g : Nat → Nat) (L : Nat) : pc_m m g (L + 1) L = pc_n m g L := if_pos (by omega)
theorem pc_mn (m : Int64) (g : Nat → Nat) {L i : Nat} (h : i ≠ L) : pc_m m g (L + 1) i = pc_m m g L i := by
  unfold pc_m
  by_cases z : i < L
  · rw [if_pos z, if_pos (by omega)]
  · rw [if_neg z, if_neg (by omega)]
theorem pc_me {m : Int64} {g : Nat → Nat} {L : Nat} (h : pc_n m g L = g L) : pc_m m g (L + 1) = pc_m m g L := by
  funext i
  by_cases e : i = L
  · subst e; rw [pc_ms, pc_mL, h]
  · exact pc_mn m g e
theorem pc_ml (m : Int64) (g : Nat → Nat) {i : Nat} (h : i < 64) : pc_m m g 64 i = pc_n m g i := if_pos h
theorem pc_nf {m : Int64} {g : Nat → Nat} {L : Nat} (h : pc_b m L = false) : pc_n m g L = g L := if_neg (by rw [h]; decide)
theorem pc_ns {m : Int64} {g : Nat → Nat} {L : Nat} (h : pc_b m L = true) (h2 : 15 ≤ g L) : pc_n m g L = g L := by
  unfold pc_n; rw [if_pos h, if_pos h2]
theorem pc_nt {m : Int64} {g : Nat → Nat} {L : Nat} (h : pc_b m L = true) (h2 : ¬ 15 ≤ g L) : pc_n m g L = g L + 1 := by
  unfold pc_n; rw [if_pos h, if_neg h2]
/-- one more lane told: the count of those at 8 or more -/
theorem pc_hs {m : Int64} {g : Nat → Nat} {L : Nat} (hL : L < 64) (h : pc_b m L = true) (h2 : ¬ 15 ≤ g L) : pc_h (pc_m m g (L + 1)) 64 = pc_h (pc_m m g L) 64 + (if g L + 1 = 8 then 1 else 0) := by
  have a := pc_hu (f := pc_m m g (L + 1)) (g := pc_m m g L) (L := L) (fun i hi => pc_mn m g hi) 64 hL
  rw [pc_ms, pc_mL, pc_nt h h2] at a
  unfold pc_e at a
  split <;> split at a <;> split at a <;> omega
/-- the planes behind a tally: each lane's counter -/
theorem pc_add {m s c0 : Int64} {p q : Nat → Int64} (hs : s = (((m &&& (p 0)) &&& (p 1)) &&& (p 2)) &&& (p 3)) (hc : c0 = m &&& (s ^^^ (-1)))
    (h0 : q 0 = p 0 ^^^ c0) (h1 : q 1 = p 1 ^^^ (p 0 &&& c0)) (h2 : q 2 = p 2 ^^^ (p 1 &&& (p 0 &&& c0))) (h3 : q 3 = p 3 ^^^ (p 2 &&& (p 1 &&& (p 0 &&& c0)))) {i : Nat} (hi : i < 64) : pc_c q i = pc_n m (pc_c p) i := by
  subst hc
  subst hs
  unfold pc_n pc_c
  rw [h0, h1, h2, h3]
  simp only [pc_and, pc_xor, pc_m1 i hi]
  cases pc_b m i <;> cases pc_b (p 0) i <;> cases pc_b (p 1) i <;> cases pc_b (p 2) i <;> cases pc_b (p 3) i <;> decide
theorem pc_sat (m : Int64) (p : Nat → Int64) (i : Nat) : pc_b ((((m &&& (p 0)) &&& (p 1)) &&& (p 2)) &&& (p 3)) i = (pc_b m i && decide (15 ≤ pc_c p i)) := by
  unfold pc_c
  simp only [pc_and]
  cases pc_b m i <;> cases pc_b (p 0) i <;> cases pc_b (p 1) i <;> cases pc_b (p 2) i <;> cases pc_b (p 3) i <;> decide
/-- the answer of count, as X puts it together -/
theorem pc_join (p : Nat → Int64) (i : Nat) :
    ((((0 : Int32) ||| ((if pc_b (p 0) i = true then (1 : Int64) else 0).toInt32 <<< ((0 : Int32) &&& 31))) ||| ((if pc_b (p 1) i = true then (1 : Int64) else 0).toInt32 <<< ((1 : Int32) &&& 31))) ||| ((if pc_b (p 2) i = true then (1 : Int64) else 0).toInt32 <<< ((2 : Int32) &&& 31))) ||| ((if pc_b (p 3) i = true then (1 : Int64) else 0).toInt32 <<< ((3 : Int32) &&& 31)) = nI (pc_c p i) := by
  unfold pc_c
  cases pc_b (p 0) i <;> cases pc_b (p 1) i <;> cases pc_b (p 2) i <;> cases pc_b (p 3) i <;> decide +kernel
theorem pc_s16 : ∀ k, k < 15 → (nI k + 1).toInt16.toInt32 = nI (k + 1) := by decide +kernel
theorem pc_v16 : ∀ k, k < 16 → vp_nar .short (nI k) = nI k := by
  intro k hk
  rw [vp_nar_short]
  exact (by decide +kernel : ∀ k, k < 16 → (nI k).toInt16.toInt32 = nI k) k hk
end
section
theorem pc_i0 : vp_in (0 : Int32) 4 := vp_in_iff.mpr (by decide)
theorem pc_i1 : vp_in (1 : Int32) 4 := vp_in_iff.mpr (by decide)
theorem pc_i2 : vp_in (2 : Int32) 4 := vp_in_iff.mpr (by decide)
theorem pc_i3 : vp_in (3 : Int32) 4 := vp_in_iff.mpr (by decide)
/-- X's tally: four planes, one step each -/
theorem pc_xt {post : Int64 → SX → Prop} {s c0 : Int64} {p : Nat → Int64}
    (K : ∀ q : Nat → Int64, q 0 = p 0 ^^^ c0 → q 1 = p 1 ^^^ (p 0 &&& c0) → q 2 = p 2 ^^^ (p 1 &&& (p 0 &&& c0)) → q 3 = p 3 ^^^ (p 2 &&& (p 1 &&& (p 0 &&& c0))) → post s q) : wX_tally_57 post s (4 + 1) c0 0 p := by
  refine br_f (by decide) ⟨pc_i0, nm_r (e' := p 0) rfl ⟨pc_i0, nm_r (e' := vp_updL p 0 (p 0 ^^^ c0)) rfl (nm_e (nm_r (e' := 1) (by decide) ?_))⟩⟩
  show wX_tally_57 post s (3 + 1) (p 0 &&& c0) 1 _
  refine br_f (by decide) ⟨pc_i1, nm_r (e' := p 1) rfl ⟨pc_i1, nm_r (e' := vp_updL (vp_updL p 0 (p 0 ^^^ c0)) 1 (p 1 ^^^ (p 0 &&& c0))) rfl (nm_e (nm_r (e' := 2) (by decide) ?_))⟩⟩
  show wX_tally_57 post s (2 + 1) (p 1 &&& (p 0 &&& c0)) 2 _
  refine br_f (by decide) ⟨pc_i2, nm_r (e' := p 2) rfl ⟨pc_i2, nm_r (e' := vp_updL (vp_updL (vp_updL p 0 (p 0 ^^^ c0)) 1 (p 1 ^^^ (p 0 &&& c0))) 2 (p 2 ^^^ (p 1 &&& (p 0 &&& c0)))) rfl (nm_e (nm_r (e' := 3) (by decide) ?_))⟩⟩
  show wX_tally_57 post s (1 + 1) (p 2 &&& (p 1 &&& (p 0 &&& c0))) 3 _
  refine br_f (by decide) ⟨pc_i3, nm_r (e' := p 3) rfl ⟨pc_i3, nm_r (e' := vp_updL (vp_updL (vp_updL (vp_updL p 0 (p 0 ^^^ c0)) 1 (p 1 ^^^ (p 0 &&& c0))) 2 (p 2 ^^^ (p 1 &&& (p 0 &&& c0)))) 3 (p 3 ^^^ (p 2 &&& (p 1 &&& (p 0 &&& c0))))) rfl (nm_e (nm_r (e' := 4) (by decide) ?_))⟩⟩
  show wX_tally_57 post s (0 + 1) _ 4 _
  exact br_t (by decide) (K _ rfl rfl rfl rfl)
/-- X's count: four bits put together -/
theorem pc_xc {post : Int32 → Prop} {p : Nat → Int64} {i : Nat} (hi : i < 64) (h : post (nI (pc_c p i))) : wX_count_16 post (nI i) p (4 + 1) 0 0 := by
  have e := pc_join p i
  rw [← pc_bit (p 0) hi, ← pc_bit (p 1) hi, ← pc_bit (p 2) hi, ← pc_bit (p 3) hi] at e
  rw [← e] at h
  refine br_f (by decide) ⟨pc_i0, nm_e (nm_r (e' := 1) (by decide) ?_)⟩
  refine br_f (by decide) ⟨pc_i1, nm_e (nm_r (e' := 2) (by decide) ?_)⟩
  refine br_f (by decide) ⟨pc_i2, nm_e (nm_r (e' := 3) (by decide) ?_)⟩
  refine br_f (by decide) ⟨pc_i3, nm_e (nm_r (e' := 4) (by decide) ?_)⟩
  exact br_t (by decide) h
/-- X's atLeast8: the bits of the top plane, one by one -/
theorem pc_xa {post : Int32 → Prop} {t : Int64} {p : Nat → Int64} {g : Nat → Nat} (hg : ∀ i, i < 64 → pc_e (g i) = (pc_b t i).toNat) (h : post (nI (pc_h g 64))) :
    ∀ d L : Nat, L + d = 64 → wX_atLeast8_12 post t p (d + 1) (nI (pc_h g L)) (nI L) := by
  intro d
  induction d with
  | zero =>
    intro L hL
    obtain rfl : L = 64 := by omega
    exact br_t (by decide) h
  | succ d ih =>
    intro L hL
    have hL' : L < 64 := by omega
    have e : nI (pc_h g L) + (((t.toUInt64 >>> ((nI L).toInt64.toUInt64 &&& Int64.toUInt64 63)).toInt64) &&& 1).toInt32 = nI (pc_h g (L + 1)) := by
      rw [pc_bit t hL']
      show _ = nI (pc_h g L + pc_e (g L))
      rw [← nI_add, hg L hL']
      cases pc_b t L <;> rfl
    exact br_f (nI_ge (b := 64) hL' (by decide)) (nm_r e (nm_r (nI_1 L) (ih (L + 1) (by omega))))
/-- Y's tally: lane by lane -/
theorem pc_yl {post : Int64 → SY → Prop} {m : Int64} {c : Nat → Nat} (hc : ∀ i, i < 64 → c i ≤ 15)
    (K : ∀ (s : Int64) (f : Int32) (a : Nat → Int32), (∀ i, i < 64 → pc_b s i = (pc_b m i && decide (15 ≤ c i))) → f = nI (pc_h (pc_n m c) 64) → (∀ i, i < 64 → a i = nI (pc_n m c i)) → post s (f, a)) :
    ∀ d L : Nat, L + d = 64 → ∀ (s : Int64) (f : Int32) (a : Nat → Int32), (∀ i, i < 64 → pc_b s i = (decide (i < L) && (pc_b m i && decide (15 ≤ c i)))) → f = nI (pc_h (pc_m m c L) 64) → (∀ i, i < 64 → a i = nI (pc_m m c L i)) → wY_tally_25 post m (d + 1) s (nI L) f a := by
  intro d
  induction d with
  | zero =>
    intro L hL s f a hs hf ha
    obtain rfl : L = 64 := by omega
    refine br_t (by decide) (K s f a ?_ ?_ ?_)
    · intro i hi; rw [hs i hi, decide_eq_true hi, Bool.true_and]
    · rw [hf]; exact congrArg nI (pc_hc 64 (fun i hi => pc_ml m c hi))
    · intro i hi; rw [ha i hi, pc_ml m c hi]
  | succ d ih =>
    intro L hL s f a hs hf ha
    have hL' : L < 64 := by omega
    have h : ¬ (64 : Int32) ≤ nI L := nI_ge (b := 64) hL' (by decide)
    have hi : vp_in (nI L) 64 := vp_in_nI hL' (by decide)
    have cl : (nI L).toNatClampNeg = L := nI_clamp (by omega)
    have hcL := hc L hL'
    have aL : a L = nI (c L) := by rw [ha L hL', pc_mL]
    -- the saturated bits, where lane L adds none
    have sk : (pc_b m L && decide (15 ≤ c L)) = false → ∀ i, i < 64 → pc_b s i = (decide (i < L + 1) && (pc_b m i && decide (15 ≤ c i))) := by
      intro z i hi
      rw [hs i hi]
      by_cases e : i = L
      · subst e; rw [z, Bool.and_false, Bool.and_false]
      · rw [show decide (i < L) = decide (i < L + 1) from decide_eq_decide.mpr (by omega)]
    rw [wY_tally_25]
    dsimp only
    rw [cl, pc_bit m hL', aL]
    refine br_f h ?_
    by_cases z : pc_b m L = true
    · rw [if_pos z]
      refine br_f (by decide) ⟨hi, ?_⟩
      by_cases y : 15 ≤ c L
      · have ce : c L = 15 := by omega
        refine br_f (by rw [ce]; decide) (nm_e (nm_r (nI_1 L) (ih (L + 1) (by omega) _ _ _ ?_ ?_ ?_)))
        · intro i hi
          rw [pc_or, pc_one hL', hs i hi]
          by_cases e : i = L
          · subst e; rw [z, decide_eq_true y, decide_eq_true (Nat.lt_succ_self i), decide_eq_true (rfl : i = i), Bool.or_true]; rfl
          · rw [show decide (i < L) = decide (i < L + 1) from decide_eq_decide.mpr (by omega), decide_eq_false (fun q : L = i => e q.symm), Bool.or_false]
        · rw [pc_me (pc_ns z y)]; exact hf
        · rw [pc_me (pc_ns z y)]; exact ha
      · have sk' := sk (by rw [decide_eq_false y, Bool.and_false])
        have hu : ∀ i, i < 64 → upd a L (nI (c L + 1)) i = nI (pc_m m c (L + 1) i) := by
          intro i hi
          by_cases e : i = L
          · subst e; rw [pc_ms, pc_nt z y]; exact if_pos rfl
          · rw [pc_mn m c e, ← ha i hi]; exact if_neg e
        have hh := pc_hs hL' z y
        refine br_t (nI_lt (b := 15) (by omega) (by decide)) ⟨hi, hi, ?_⟩
        rw [pc_s16 _ (by omega), pc_v16 _ (by omega)]
        refine nm_e ?_
        by_cases w : c L + 1 = 8
        · rw [if_pos w] at hh
          refine br_t (by rw [w]; decide) (nm_e (nm_r (nI_1 L) (ih (L + 1) (by omega) _ _ _ sk' ?_ hu)))
          rw [hf, hh, nI_1]
        · rw [if_neg w] at hh
          refine br_f (fun q => w ((nI_eq (b := 8) (by omega) (by decide)).mp q)) (nm_r (nI_1 L) (ih (L + 1) (by omega) _ _ _ sk' ?_ hu))
          rw [hf, hh]; rfl
    · have z' : pc_b m L = false := by revert z; cases pc_b m L <;> simp
      rw [if_neg z]
      refine br_t rfl (nm_r (nI_1 L) (ih (L + 1) (by omega) _ _ _ (sk (by rw [z', Bool.false_and])) ?_ ?_))
      · rw [pc_me (pc_nf z')]; exact hf
      · rw [pc_me (pc_nf z')]; exact ha
end
section
/-- the reference's array holds each lane's counter, its field the number of lanes at 8 or more -/
def i_Rel (_ : Nat) (u : SX) (v : SY) : Prop := v.1 = nI (pc_h (pc_c u) 64) ∧ ∀ i, i < 64 → v.2 i = nI (pc_c u i)
theorem i_up {k : Nat} {u : SX} {v : SY} (h : i_Rel k u v) : i_Rel (k + 3) u v := h
theorem i_vc0 : wpX_init (fun u => wpY_init (fun v => i_Rel 0 u v)) := by
  show i_Rel 0 (fun _ => 0) (0, fun _ => 0)
  refine ⟨?_, fun i hi => ?_⟩
  · rw [pc_h0]; rfl
  · show (0 : Int32) = nI (pc_c (fun _ => 0) i)
    unfold pc_c
    rw [pc_0]; rfl
theorem i_vc_tally {k : Nat} {u : SX} {v : SY} (I : i_Rel k u v) (hk : k + 3 ≤ 1536) (v1 : Int32) (v2 : Int32) : wpX_tally (fun r u' => wpY_tally (fun r' v' => r' = r ∧ i_Rel (k + 3) u' v') v v1 v2) u v1 v2 := by
  obtain ⟨f, a⟩ := v
  obtain ⟨hf, ha⟩ := I
  intro m hm s hs c0 hc
  refine ⟨4 + 1, pc_xt ?_⟩
  intro q h0 h1 h2 h3
  intro m' hm'
  cases hm'.trans hm.symm
  refine ⟨64 + 1, pc_yl (c := pc_c u) (fun i _ => pc_lt u i) ?_ 64 0 rfl 0 f a ?_ ?_ ?_⟩
  · intro s' f' a' hs' hf' ha'
    refine ⟨pc_ext (fun i hi => ?_), ?_, fun i hi => ?_⟩
    · rw [hs' i hi, hs, pc_sat]
    · show f' = _
      rw [hf']
      exact congrArg nI (pc_hc 64 (fun i hi => (pc_add hs hc h0 h1 h2 h3 hi).symm))
    · show a' i = _
      rw [ha' i hi, pc_add hs hc h0 h1 h2 h3 hi]
  · intro i hi
    rw [pc_0, decide_eq_false (Nat.not_lt_zero i), Bool.false_and]
  · rw [pc_m0]; exact hf
  · rw [pc_m0]; exact ha
theorem i_vc_count {k : Nat} {u : SX} {v : SY} (I : i_Rel k u v) (hk : k + 3 ≤ 1536) (v1 : Int32) : wpX_count (fun r => wpY_count (fun r' => r' = r ∧ i_Rel (k + 3) u v) v v1) u v1 := by
  obtain ⟨f, a⟩ := v
  by_cases h0 : v1 < 0
  · exact br_t h0 (br_t h0 ⟨rfl, I⟩)
  · by_cases h1 : v1 ≤ 63
    · obtain ⟨j, hj, rfl⟩ := nI_of2 (M := 63) (n := 63) (by decide) h0 h1
      have hj' : j < 64 := by omega
      have e : a (nI j).toNatClampNeg = nI (pc_c u j) := by rw [nI_clamp (by omega)]; exact I.2 j hj'
      exact br_f h0 (br_t h1 ⟨4 + 1, pc_xc hj' (br_f h0 (br_t h1 ⟨vp_in_nI hj' (by decide), e, I⟩))⟩)
    · exact br_f h0 (br_f h1 (br_f h0 (br_f h1 ⟨rfl, I⟩)))
theorem i_vc_atLeast8 {k : Nat} {u : SX} {v : SY} (I : i_Rel k u v) (hk : k + 3 ≤ 1536) : wpX_atLeast8 (fun r => wpY_atLeast8 (fun r' => r' = r ∧ i_Rel (k + 3) u v) v) u := by
  obtain ⟨f, a⟩ := v
  refine nm_e ⟨64 + 1, ?_⟩
  exact pc_xa (g := pc_c u) (fun i _ => pc_top u i) ⟨I.1, I⟩ 64 0 rfl
end
