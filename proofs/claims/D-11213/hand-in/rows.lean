section
/-- bit i of a long -/
def gc_b (x : Int64) (i : Nat) : Bool := x.toBitVec.getLsbD i
/-- the long 1L << k, as printed -/
def gc_p (k : Nat) : Int64 := (1 : Int64) <<< ((nI k).toInt64 &&& 63)
theorem gc_ext {x y : Int64} (h : ∀ i, i < 64 → gc_b x i = gc_b y i) : x = y :=
  Int64.toBitVec_inj.mp (BitVec.eq_of_getLsbD_eq (fun i hi => h i hi))
theorem gc_or (x y : Int64) (i : Nat) : gc_b (x ||| y) i = (gc_b x i || gc_b y i) := by
  unfold gc_b
  rw [Int64.toBitVec_or, BitVec.getLsbD_or]
theorem gc_and (x y : Int64) (i : Nat) : gc_b (x &&& y) i = (gc_b x i && gc_b y i) := by
  unfold gc_b
  rw [Int64.toBitVec_and, BitVec.getLsbD_and]
theorem gc_m1 {i : Nat} (hi : i < 64) : gc_b (-1) i = true := by
  unfold gc_b
  rw [show (-1 : Int64).toBitVec = BitVec.allOnes 64 by decide, BitVec.getLsbD_allOnes]
  simp [hi]
theorem gc_0 (i : Nat) : gc_b 0 i = false := by
  unfold gc_b
  rw [show (0 : Int64).toBitVec = 0#64 by decide]
  simp
theorem gc_not (x : Int64) {i : Nat} (hi : i < 64) : gc_b (x ^^^ (-1)) i = !gc_b x i := by
  have t := gc_m1 hi
  unfold gc_b at t ⊢
  rw [Int64.toBitVec_xor, BitVec.getLsbD_xor, t, Bool.xor_true]
theorem gc_or0 (x : Int64) : x ||| 0 = x := gc_ext (fun i _ => by rw [gc_or, gc_0, Bool.or_false])
theorem gc_0or (x : Int64) : 0 ||| x = x := gc_ext (fun i _ => by rw [gc_or, gc_0, Bool.false_or])
theorem gc_orx (x : Int64) : x ||| x = x := gc_ext (fun i _ => by rw [gc_or, Bool.or_self])
theorem gc_cu : ∀ k, k < 64 → ((nI k).toInt64.toUInt64 &&& Int64.toUInt64 63).toNat = k := by decide +kernel
theorem gc_cs : ∀ k, k < 64 → (((nI k).toInt64 &&& 63).toBitVec.smod 64).toNat = k := by decide +kernel
theorem gc_tp : ∀ k, k < 64 → (gc_p k).toBitVec = BitVec.twoPow 64 k := by decide +kernel
theorem gc_pb {k i : Nat} (hk : k < 64) : gc_b (gc_p k) i = decide (k = i) := by
  unfold gc_b
  rw [gc_tp k hk, BitVec.getLsbD_twoPow]
  simp [hk]
theorem gc_ps {k : Nat} (hk : k < 64) : gc_b (gc_p k) k = true := by
  rw [gc_pb hk]
  simp
theorem gc_p0 {k : Nat} (hk : k < 64) : ¬ gc_p k = 0 := by
  intro e
  have t := gc_ps hk
  rw [e, gc_0] at t
  cases t
theorem gc_low (v : BitVec 64) : v &&& 1#64 = 1#64 ↔ v.getLsbD 0 = true := by
  constructor
  · intro h
    have t := congrArg (fun x => x.getLsbD 0) h
    simpa using t
  · intro h
    apply BitVec.eq_of_getLsbD_eq
    intro i hi
    cases i with
    | zero => simp [h]
    | succ i => simp
theorem gc_hb (x : Int64) {k : Nat} (hk : k < 64) : ((x.toUInt64 >>> ((nI k).toInt64.toUInt64 &&& Int64.toUInt64 63)).toInt64 &&& 1) = 1 ↔ gc_b x k = true := by
  have e : (x.toUInt64 >>> ((nI k).toInt64.toUInt64 &&& Int64.toUInt64 63)).toInt64.toBitVec = x.toBitVec >>> k := by
    apply BitVec.eq_of_toNat_eq
    show (x.toUInt64 >>> ((nI k).toInt64.toUInt64 &&& Int64.toUInt64 63)).toNat = _
    rw [UInt64.toNat_shiftRight, gc_cu k hk, Nat.mod_eq_of_lt hk, BitVec.toNat_ushiftRight]
    rfl
  rw [← Int64.toBitVec_inj, Int64.toBitVec_and, e]
  show x.toBitVec >>> k &&& 1#64 = 1#64 ↔ x.toBitVec.getLsbD k = true
  rw [gc_low, BitVec.getLsbD_ushiftRight, Nat.add_zero]
theorem gc_sb (x : Int64) {k : Nat} (hk : k < 64) : ((x >>> ((nI k).toInt64 &&& 63)) &&& 1) = 1 ↔ gc_b x k = true := by
  rw [← Int64.toBitVec_inj, Int64.toBitVec_and, Int64.toBitVec_shiftRight]
  show x.toBitVec.sshiftRight (((nI k).toInt64 &&& 63).toBitVec.smod 64).toNat &&& 1#64 = 1#64 ↔ x.toBitVec.getLsbD k = true
  rw [gc_low, gc_cs k hk, BitVec.getLsbD_sshiftRight]
  simp [hk]
theorem gc_nb {x : Bool} (h : ¬ x = true) : x = false := by cases x <;> first | rfl | exact absurd rfl h
theorem gc_nf {x : Bool} (h : ¬ x = false) : x = true := by cases x <;> first | rfl | exact absurd rfl h
end
section
theorem gc_ones {post : Int32 → Prop} {x : Int64} (H : ∀ r, post r) : wpX_ones post () x :=
  pk_loop (fun n i s => wX_ones_4 post x n s (nI i)) (fun _ _ => True) 64 0 0 (by omega) trivial
    (fun n s _ => pk_le 64 64 (fun _ => H s) (fun z => absurd z (by omega)))
    (fun n i s hi _ hw => pk_le 64 i (fun z => absurd z (by omega)) (fun _ => nm_e (nm_r (nI_1 i) (hw _ trivial))))
theorem gc_guard0 {post : Int32 → St2 → Prop} {c : Int32} {a1 a2 a3 : Nat → Int64} {x : Int64} (H : ∀ r, post r (c, a1, a2, vp_updL a3 0 x)) : wpX_guard post (c, a1, a2, a3) 0 x :=
  br_t rfl ⟨pk_in 0 2 (by omega), nm_r (e' := vp_updL a3 0 x) rfl (gc_ones H)⟩
theorem gc_guard7 {post : Int32 → St2 → Prop} {c : Int32} {a1 a2 a3 : Nat → Int64} {x : Int64} (H : ∀ r, post r (c, a1, a2, vp_updL a3 1 x)) : wpX_guard post (c, a1, a2, a3) 7 x :=
  br_f (by decide) ⟨pk_in 1 2 (by omega), nm_r (e' := vp_updL a3 1 x) rfl (gc_ones H)⟩
theorem gc_close {post : Int32 → St2 → Prop} {k : Nat} {a1 a2 a3 : Nat → Int64} (H : post (nI k) (nI (k + 1), a1, a2, a3)) : wpX_close post (nI k, a1, a2, a3) :=
  nm_r (nI_1 k) (by rw [nI_pred]; exact H)
theorem gc_ix (k i : Nat) : 64 * nI k + nI i = nI (64 * k + i) := by
  rw [show (64 : Int32) = nI 64 from rfl, pk_mul, nI_add]
theorem gc_in {k i : Nat} (hk : k < 30) (hi : i < 64) : vp_in (64 * nI k + nI i) 1920 := by
  rw [gc_ix]
  exact vp_in_nI (by omega) (by omega)
theorem gc_cl {k i : Nat} (hk : k < 30) (hi : i < 64) : (64 * nI k + nI i).toNatClampNeg = 64 * k + i := by
  rw [gc_ix]
  exact nI_clamp (by omega)
theorem gc_up {k i : Nat} (hk : k < 30) (hi : i < 64) (s : Nat → Int64) (x : Int64) : vp_updL s (64 * nI k + nI i).toNatClampNeg x = vp_updL s (64 * k + i) x := by rw [gc_cl hk hi]
theorem gc_u2 {k : Nat} (hk : k < 30) (s : Nat → Int64) (x : Int64) : vp_updL s (nI k).toNatClampNeg x = vp_updL s k x := by rw [nI_clamp (by omega)]
/-- the row k is being filled with f, up to i; the rows before it stand as in a -/
def gc_F (k : Nat) (a : Nat → Int64) (f : Nat → Int64) (i : Nat) (s : Nat → Int64) : Prop := (∀ j, j < 64 * k → s j = a j) ∧ (∀ j, j < i → s (64 * k + j) = f j)
theorem gc_F0 {k : Nat} {a f : Nat → Int64} : gc_F k a f 0 a := ⟨fun _ _ => rfl, fun j hj => absurd hj (by omega)⟩
theorem gc_F1 {k i : Nat} {a f s : Nat → Int64} {x : Int64} (h : gc_F k a f i s) (hx : x = f i) : gc_F k a f (i + 1) (vp_updL s (64 * k + i) x) := by
  refine ⟨fun j hj => ?_, fun j hj => ?_⟩
  · rw [pk_uLn (by omega)]
    exact h.1 j hj
  · by_cases e : j = i
    · rw [e, pk_uLs, hx]
    · rw [pk_uLn (by omega)]
      exact h.2 j (by omega)
theorem gc_skip {post : Int32 → St2 → Prop} {k : Nat} {a1 a2 a3 : Nat → Int64} (hk : k < 30)
    (H : ∀ a, (∀ j, j < 64 * k → a j = a1 j) → (∀ j, j < 64 → a (64 * k + j) = gc_p j) → post (nI k) (nI (k + 1), a, vp_updL a2 k (-1), a3)) : wpX_skip post (nI k, a1, a2, a3) :=
  pk_eq k 30 (fun z => absurd z (by omega)) (fun _ =>
    pk_loop (fun n i s => wX_skip_13 post (nI k) n (nI i) s a2 a3) (gc_F k a1 gc_p) 64 0 a1 (by omega) gc_F0
      (fun n s h => pk_le 64 64 (fun _ => ⟨pk_in k 30 hk, nm_r (gc_u2 hk _ _) (gc_close (H s h.1 h.2))⟩) (fun z => absurd z (by omega)))
      (fun n i s hi h hw => pk_le 64 i (fun z => absurd z (by omega)) (fun _ => ⟨gc_in hk hi, nm_r (gc_up hk hi _ _) (nm_r (nI_1 i) (hw _ (gc_F1 h rfl)))⟩)))
theorem gc_fail {post : Int32 → St2 → Prop} {k : Nat} {a1 a2 a3 : Nat → Int64} (hk : k < 30)
    (H : ∀ a, (∀ j, j < 64 * k → a j = a1 j) → (∀ j, j < 64 → a (64 * k + j) = 0) → post (nI k) (nI (k + 1), a, vp_updL a2 k 0, a3)) : wpX_fail post (nI k, a1, a2, a3) :=
  pk_eq k 30 (fun z => absurd z (by omega)) (fun _ =>
    pk_loop (fun n i s => wX_fail_13 post (nI k) n (nI i) s a2 a3) (gc_F k a1 (fun _ => 0)) 64 0 a1 (by omega) gc_F0
      (fun n s h => pk_le 64 64 (fun _ => ⟨pk_in k 30 hk, nm_r (gc_u2 hk _ _) (gc_close (H s h.1 h.2))⟩) (fun z => absurd z (by omega)))
      (fun n i s hi h hw => pk_le 64 i (fun z => absurd z (by omega)) (fun _ => ⟨gc_in hk hi, nm_r (gc_up hk hi _ _) (nm_r (nI_1 i) (hw _ (gc_F1 h rfl)))⟩)))
theorem gc_good {post : Int32 → Prop} {k p : Nat} {a1 a2 a3 : Nat → Int64} (hk : k ≤ 30) (hp : p < k) (H : post 1) : wpX_isGood post (nI k, a1, a2, a3) (nI p) :=
  br_f (nI_pos (by omega)) (br_f (nI_ge hp (by omega)) H)
theorem gc_has {post : Int32 → Prop} {x : Int64} {k : Nat} (hk : k < 64) (H1 : gc_b x k = true → post 1) (H0 : gc_b x k = false → post 0) : wpX_has post () x (nI k) :=
  ⟨fun z => H1 ((gc_hb x hk).mp z), fun z => H0 (gc_nb (fun e => z ((gc_hb x hk).mpr e)))⟩
/-- what the first half of a step gives -/
def gc_z (a1 a3 : Nat → Int64) (p s : Nat) : Int64 := if gc_b (a3 0) s = true then a1 (64 * p + s) else 0
/-- what a step gives -/
def gc_sv (a1 a3 : Nat → Int64) (p q s : Nat) : Int64 := if gc_b (a3 1) s = true then gc_z a1 a3 p s ||| a1 (64 * q + s) else gc_z a1 a3 p s
theorem gc_step28 {post : Int64 → Prop} {c : Int32} {a1 a2 a3 : Nat → Int64} {q s : Nat} {z : Int64} (hq : q < 30) (hs : s < 64)
    (H : post (if gc_b (a3 1) s = true then z ||| a1 (64 * q + s) else z)) : wX_step_28 post (nI q) (nI s) z c a1 a2 a3 := by
  unfold wX_step_28
  refine gc_has hs (fun e => br_f (by decide) ⟨gc_in hq hs, ?_⟩) (fun e => br_t rfl ?_)
  · rw [gc_cl hq hs]
    rw [if_pos e] at H
    exact H
  · rw [if_neg (by rw [e]; decide)] at H
    exact H
theorem gc_step {post : Int64 → Prop} {c : Int32} {a1 a2 a3 : Nat → Int64} {p q s : Nat} (hp : p < 30) (hq : q < 30) (hs : s < 64)
    (H : post (gc_sv a1 a3 p q s)) : wpX_step post (c, a1, a2, a3) (nI p) (nI q) (nI s) := by
  unfold gc_sv gc_z at H
  unfold wpX_step
  dsimp only
  refine gc_has hs (fun e => br_f (by decide) ⟨gc_in hp hs, ?_⟩) (fun e => br_t rfl ?_)
  · rw [gc_cl hp hs]
    rw [if_pos e] at H
    exact gc_step28 hq hs H
  · rw [if_neg (show ¬ gc_b (a3 0) s = true by rw [e]; decide)] at H
    exact gc_step28 hq hs H
theorem gc_svc {a1 s a3 : Nat → Int64} {k p q i : Nat} (h : ∀ j, j < 64 * k → s j = a1 j) (hp : p < k) (hq : q < k) (hi : i < 64) : gc_sv s a3 p q i = gc_sv a1 a3 p q i := by
  unfold gc_sv gc_z
  rw [h (64 * p + i) (by omega), h (64 * q + i) (by omega)]
theorem gc_choice {post : Int32 → St2 → Prop} {k p q : Nat} {a1 a2 a3 : Nat → Int64} (hk : k < 30) (hp : p < k) (hq : q < k)
    (H : ∀ a, (∀ j, j < 64 * k → a j = a1 j) → (∀ j, j < 64 → a (64 * k + j) = gc_sv a1 a3 p q j) → post (nI k) (nI (k + 1), a, vp_updL a2 k (((a3 0 ||| a3 1) &&& (a2 p ||| (a3 0 ^^^ (-1)))) &&& (a2 q ||| (a3 1 ^^^ (-1)))), a3)) :
    wpX_choice post (nI k, a1, a2, a3) (nI p) (nI q) := by
  unfold wpX_choice
  dsimp only
  refine gc_good (by omega) hp (br_f (by decide) (gc_good (by omega) hq (br_f (by decide) (pk_eq k 30 (fun z => absurd z (by omega)) (fun _ => nm_e ⟨pk_in p 30 (by omega), pk_in q 30 (by omega), ?_⟩)))))
  rw [nI_clamp (show p < 2 ^ 31 by omega), nI_clamp (show q < 2 ^ 31 by omega)]
  exact nm_e (pk_loop (fun n i s => wX_choice_85 post (nI p) (nI q) (((a3 0 ||| a3 1) &&& (a2 p ||| (a3 0 ^^^ (-1)))) &&& (a2 q ||| (a3 1 ^^^ (-1)))) (nI k) n (nI i) s a2 a3) (gc_F k a1 (gc_sv a1 a3 p q)) 64 0 a1 (by omega) gc_F0
      (fun n s h => pk_le 64 64 (fun _ => ⟨pk_in k 30 hk, nm_r (gc_u2 hk _ _) (gc_close (H s h.1 h.2))⟩) (fun z => absurd z (by omega)))
      (fun n i s hi h hw => pk_le 64 i (fun z => absurd z (by omega)) (fun _ => gc_step (by omega) (by omega) hi ⟨gc_in hk hi, nm_r (gc_up hk hi _ _) (nm_r (nI_1 i) (hw _ (gc_F1 h (gc_svc h.1 hp hq hi))))⟩)))
theorem gc_reached {post : Int64 → Prop} {c : Int32} {a1 a2 a3 : Nat → Int64} {p q s : Nat} (hp : p < 30) (hq : q < 30) (hs : s < 64)
    (hS : gc_p s ||| gc_sv a1 a3 p q s = gc_p s) (H : post (gc_p s)) : wpX_reached post (c, a1, a2, a3) (nI p) (nI q) (nI s) := by
  unfold wpX_reached
  dsimp only
  refine nm_r (e' := gc_p s) rfl ⟨2, br_f (by decide) (br_f (gc_p0 hs) (nm_e ?_))⟩
  exact pk_loop (σ := Unit) (fun n i _ => wX_reached_44 post (wX_reached_11 post (nI p) (nI q) c a1 a2 a3 1) (nI p) (nI q) (gc_p s) 0 (gc_p s &&& (0 ^^^ (-1))) c a1 a2 a3 n (gc_p s) (nI i)) (fun _ _ => True) 64 0 () (by omega) trivial
    (fun n _ _ => pk_le 64 64 (fun _ => nm_r (e' := 1) (by decide) (br_f (by decide) (br_t rfl H))) (fun z => absurd z (by omega)))
    (fun n i _ hi _ hw => pk_le 64 i (fun z => absurd z (by omega)) (fun _ => gc_has hi
      (fun e => br_f (by decide) (gc_step hp hq hi (nm_r (e' := gc_p s) (by
        have t : s = i := by
          rw [gc_and, gc_pb hs] at e
          exact of_decide_eq_true (Bool.and_eq_true_iff.mp e).1
        rw [← t]
        exact hS) (nm_r (nI_1 i) (hw () trivial)))))
      (fun _ => br_t rfl (nm_r (nI_1 i) (hw () trivial)))))
theorem gc_129 {post : Int64 → Prop} {J9 J27 : Int64 → Int32 → Int32 → Prop} {x1 x2 x7 x8 x10 x11 z0 c : Int32} {x5 : Int64} {s : Nat} {a1 a2 a3 : Nat → Int64} (hs : s < 64)
    (hc : gc_b x5 s = true ∨ x10 = 0 ∨ x11 = 0 ∨ z0 = 0) (H : J27 x5 x7 (nI (s + 1))) : wX_loopSure_129 post J9 J27 x1 x2 x5 x7 x8 (nI s) x10 x11 z0 c a1 a2 a3 := by
  unfold wX_loopSure_129
  refine gc_has hs (fun e => br_f (by decide) (nm_r (nI_1 s) H)) (fun e => br_t rfl ?_)
  refine br_c (fun _ => nm_r (nI_1 s) H) (fun h1 => br_c (fun _ => nm_r (nI_1 s) H) (fun h2 => br_c (fun _ => nm_r (nI_1 s) H) (fun h3 => ?_)))
  exfalso
  rcases hc with h | h | h | h
  · rw [e] at h
    cases h
  · exact h1 h
  · exact h2 h
  · exact h3 h
theorem gc_102 {post : Int64 → Prop} {J9 J27 : Int64 → Int32 → Int32 → Prop} {x7 x8 x10 z0 c : Int32} {x5 : Int64} {p q s : Nat} {a1 a2 a3 : Nat → Int64} (hp : p < 30) (hq : q < 30) (hs : s < 64)
    (hc : gc_b x5 s = true ∨ x10 = 0 ∨ ¬ gc_sv a1 a3 p q s &&& (x5 ^^^ (-1)) = 0) (H : J27 x5 x7 (nI (s + 1))) : wX_loopSure_102 post J9 J27 (nI p) (nI q) x5 x7 x8 (nI s) x10 z0 c a1 a2 a3 := by
  unfold wX_loopSure_102
  refine gc_step hp hq hs (br_c (fun e => gc_129 hs ?_ H) (fun _ => gc_129 hs (Or.inr (Or.inr (Or.inr rfl))) H))
  rcases hc with h | h | h
  · exact Or.inl h
  · exact Or.inr (Or.inl h)
  · exact absurd e h
theorem gc_67 {post : Int64 → Prop} {J9 J27 : Int64 → Int32 → Int32 → Prop} {x7 x8 z0 c : Int32} {x5 : Int64} {p q s : Nat} {a1 a2 a3 : Nat → Int64} (hp : p < 30) (hq : q < 30) (hs : s < 64)
    (hc : gc_b x5 s = true ∨ z0 = 0 ∨ ¬ gc_sv a1 a3 p q s &&& (x5 ^^^ (-1)) = 0) (H : J27 x5 x7 (nI (s + 1))) : wX_loopSure_67 post J9 J27 (nI p) (nI q) x5 x7 x8 (nI s) z0 c a1 a2 a3 := by
  unfold wX_loopSure_67 wX_loopSure_97
  exact gc_has hs (fun _ => br_f (by decide) ⟨pk_in q 30 hq, gc_has hs (fun _ => br_f (by decide) (gc_102 hp hq hs hc H)) (fun _ => br_t rfl (gc_102 hp hq hs hc H))⟩) (fun _ => br_t rfl (gc_102 hp hq hs hc H))
theorem gc_lsure {post : Int64 → Prop} {c : Int32} {a1 a2 a3 : Nat → Int64} {p q : Nat} {o : Int64} (hp : p < 30) (hq : q < 30)
    (hN : ∀ s, s < 64 → gc_b o s = true ∨ (gc_b (a3 0) s = true ∧ gc_b (a2 p) s = false) ∨ ¬ gc_sv a1 a3 p q s &&& (o ^^^ (-1)) = 0) (H : post o) :
    wpX_loopSure post (c, a1, a2, a3) (nI p) (nI q) o := by
  unfold wpX_loopSure
  dsimp only
  refine ⟨2, br_f (by decide) (br_f (by decide) ?_)⟩
  refine pk_loop (σ := Unit) (fun n i _ => wX_loopSure_27 post (wX_loopSure_9 post (nI p) (nI q) c a1 a2 a3 1) (nI p) (nI q) 0 c a1 a2 a3 n o 0 (nI i)) (fun _ _ => True) 64 0 () (by omega) trivial
    (fun n _ _ => pk_le 64 64 (fun _ => nm_r (e' := 1) (by decide) (br_f (by decide) (br_t rfl H))) (fun z => absurd z (by omega)))
    (fun n i _ hi _ hw => pk_le 64 i (fun z => absurd z (by omega)) (fun _ => ?_))
  have hw' : wX_loopSure_27 post (wX_loopSure_9 post (nI p) (nI q) c a1 a2 a3 1) (nI p) (nI q) 0 c a1 a2 a3 n o 0 (nI (i + 1)) := hw () trivial
  have t := hN i hi
  unfold wX_loopSure_62
  refine gc_has hi (fun e => br_f (by decide) ⟨pk_in p 30 hp, ?_⟩) (fun e => br_t rfl ?_)
  · rw [nI_clamp (show p < 2 ^ 31 by omega)]
    refine gc_has hi (fun e2 => br_f (by decide) (gc_67 hp hq hi ?_ hw')) (fun e2 => br_t rfl (gc_67 hp hq hi (Or.inr (Or.inl rfl)) hw'))
    rcases t with h | h | h
    · exact Or.inl h
    · rw [e2] at h
      cases h.2
    · exact Or.inr (Or.inr h)
  · refine gc_67 hp hq hi ?_ hw'
    rcases t with h | h | h
    · exact Or.inl h
    · rw [e] at h
      cases h.1
    · exact Or.inr (Or.inr h)
theorem gc_loop {post : Int32 → St2 → Prop} {k p q : Nat} {a1 a2 a3 : Nat → Int64} (hk : k < 30) (hp : p < k) (hq : q < k)
    (hS : ∀ s, s < 64 → gc_p s ||| gc_sv a1 a3 p q s = gc_p s)
    (hN : ∀ s, s < 64 → gc_b ((a3 0 ||| a3 1) ^^^ (-1)) s = true ∨ (gc_b (a3 0) s = true ∧ gc_b (a2 p) s = false) ∨ ¬ gc_sv a1 a3 p q s &&& (((a3 0 ||| a3 1) ^^^ (-1)) ^^^ (-1)) = 0)
    (H : ∀ a, (∀ j, j < 64 * k → a j = a1 j) → (∀ j, j < 64 → a (64 * k + j) = gc_p j &&& ((a3 0 ||| a3 1) ^^^ (-1))) → post (nI k) (nI (k + 1), a, vp_updL a2 k ((a3 0 ||| a3 1) ^^^ (-1)), a3)) :
    wpX_loop post (nI k, a1, a2, a3) (nI p) (nI q) := by
  unfold wpX_loop
  dsimp only
  refine gc_good (by omega) hp (br_f (by decide) (gc_good (by omega) hq (br_f (by decide) (pk_eq k 30 (fun z => absurd z (by omega)) (fun _ => nm_e ?_)))))
  exact pk_loop (fun n i s => wX_loop_51 post (nI p) (nI q) ((a3 0 ||| a3 1) ^^^ (-1)) (nI k) n (nI i) s a2 a3) (gc_F k a1 (fun j => gc_p j &&& ((a3 0 ||| a3 1) ^^^ (-1)))) 64 0 a1 (by omega) gc_F0
      (fun n s h => pk_le 64 64 (fun _ => gc_lsure (by omega) (by omega) (fun j hj => by rw [gc_svc h.1 hp hq hj]; exact hN j hj) ⟨pk_in k 30 hk, nm_r (gc_u2 hk _ _) (gc_close (H s h.1 h.2))⟩) (fun z => absurd z (by omega)))
      (fun n i s hi h hw => pk_le 64 i (fun z => absurd z (by omega)) (fun _ => gc_reached (by omega) (by omega) hi (by rw [gc_svc h.1 hp hq hi]; exact hS i hi) ⟨gc_in hk hi, nm_r (gc_up hk hi _ _) (nm_r (nI_1 i) (hw _ (gc_F1 h rfl)))⟩))
theorem gc_sure {post : Int64 → Prop} {k p : Nat} {a1 a2 a3 : Nat → Int64} (hk : k ≤ 30) (hp : p < k) (H : post (a2 p)) : wpX_sure post (nI k, a1, a2, a3) (nI p) := by
  unfold wpX_sure
  dsimp only
  refine gc_good hk hp (br_f (by decide) ⟨pk_in p 30 (by omega), ?_⟩)
  rw [nI_clamp (by omega)]
  exact H
theorem gc_ends {post : Int64 → Prop} {k p s : Nat} {a1 a2 a3 : Nat → Int64} (hk : k ≤ 30) (hp : p < k) (hs : s < 64) (H : post (a1 (64 * p + s))) : wpX_ends post (nI k, a1, a2, a3) (nI p) (nI s) := by
  unfold wpX_ends
  dsimp only
  refine gc_good hk hp (br_f (by decide) (br_f (nI_pos (by omega)) (br_f (nI_ge (b := 64) hs (by decide)) (br_f (by decide) ⟨gc_in (by omega) hs, ?_⟩))))
  rw [gc_cl (by omega) hs]
  exact H
theorem gc_w {o : Int64} {s : Nat} (hs : s < 64) : (gc_p s &&& o) &&& (0 ^^^ (-1)) = 0 ↔ gc_b o s = false := by
  constructor
  · intro e
    have t : gc_b ((gc_p s &&& o) &&& (0 ^^^ (-1))) s = false := by rw [e, gc_0]
    rw [gc_and, gc_and, gc_ps hs, gc_not _ hs, gc_0] at t
    simpa using t
  · intro e
    refine gc_ext (fun i hi => ?_)
    rw [gc_and, gc_and, gc_pb hs, gc_0]
    by_cases h : s = i
    · rw [← h, e]
      simp
    · simp [h]
theorem gc_weak {post : Int64 → Prop} {k p : Nat} {a1 a2 a3 : Nat → Int64} {o : Int64} (hk : k ≤ 30) (hp : p < k) (hr : ∀ j, j < 64 → a1 (64 * p + j) = gc_p j &&& o) (H : post (o ^^^ (-1))) :
    wpX_weakDemand post (nI k, a1, a2, a3) (nI p) 0 := by
  unfold wpX_weakDemand
  dsimp only
  refine gc_good hk hp (br_f (by decide) ?_)
  unfold wpX_weakOf
  dsimp only
  refine pk_loop (fun n i x => wX_weakOf_6 (fun r => post r) (nI p) 0 (nI k) a1 a2 a3 n x (nI i)) (fun i x => ∀ j, j < 64 → gc_b x j = (decide (j < i) && !gc_b o j)) 64 0 0 (by omega) (fun j hj => by rw [gc_0]; simp)
    (fun n x h => pk_le 64 64 (fun _ => ?_) (fun z => absurd z (by omega)))
    (fun n i x hi h hw => pk_le 64 i (fun z => absurd z (by omega)) (fun _ => ⟨gc_in (by omega) hi, ?_⟩))
  · have e : x = o ^^^ (-1) := gc_ext (fun j hj => by rw [h j hj, gc_not _ hj]; simp [hj])
    rw [e]
    exact H
  · rw [gc_cl (by omega) hi, hr i hi]
    refine ek_if (gc_w hi) (fun e => br_f (by decide) (nm_e (nm_r (nI_1 i) (hw _ ?_)))) (fun e => br_t rfl (nm_r (nI_1 i) (hw _ ?_)))
    · intro j hj
      show gc_b (x ||| gc_p i) j = _
      rw [gc_or, h j hj, gc_pb hi]
      by_cases g : i = j
      · rw [← g, e]
        simp
      · have g1 : decide (i = j) = false := decide_eq_false g
        have g2 : decide (j < i + 1) = decide (j < i) := decide_eq_decide.mpr (by omega)
        rw [g1, g2, Bool.or_false]
    · intro j hj
      rw [h j hj]
      by_cases g : i = j
      · rw [← g, gc_nf e]
        simp
      · have g2 : decide (j < i + 1) = decide (j < i) := decide_eq_decide.mpr (by omega)
        rw [g2]
end
section
/-- skip under the first condition, fail under the second -/
theorem gc_sv2 {a1 a3 : Nat → Int64} {p q s : Nat} (h0 : a1 (64 * p + s) = gc_p s) (h1 : a1 (64 * q + s) = 0) : gc_sv a1 a3 p q s = if gc_b (a3 0) s = true then gc_p s else 0 := by
  unfold gc_sv gc_z
  rw [h0, h1, gc_or0]
  split <;> rfl
/-- fail under the first condition, skip under the second -/
theorem gc_sv3 {a1 a3 : Nat → Int64} {p q s : Nat} (h0 : a1 (64 * p + s) = 0) (h1 : a1 (64 * q + s) = gc_p s) : gc_sv a1 a3 p q s = if gc_b (a3 1) s = true then gc_p s else 0 := by
  have e : gc_z a1 a3 p s = 0 := by
    unfold gc_z
    rw [h0]
    split <;> rfl
  unfold gc_sv
  rw [h1, e, gc_0or]
theorem gc_S {a1 a3 : Nat → Int64} {p q s : Nat} (h0 : a1 (64 * p + s) = 0) (h1 : a1 (64 * q + s) = gc_p s) : gc_p s ||| gc_sv a1 a3 p q s = gc_p s := by
  rw [gc_sv3 h0 h1]
  split
  · exact gc_orx _
  · exact gc_or0 _
theorem gc_N {a1 a2 a3 : Nat → Int64} {p q s : Nat} (hs : s < 64) (h0 : a1 (64 * p + s) = 0) (h1 : a1 (64 * q + s) = gc_p s) (h2 : a2 p = 0) :
    gc_b ((a3 0 ||| a3 1) ^^^ (-1)) s = true ∨ (gc_b (a3 0) s = true ∧ gc_b (a2 p) s = false) ∨ ¬ gc_sv a1 a3 p q s &&& (((a3 0 ||| a3 1) ^^^ (-1)) ^^^ (-1)) = 0 := by
  cases e0 : gc_b (a3 0) s with
  | true => exact Or.inr (Or.inl ⟨rfl, by rw [h2, gc_0]⟩)
  | false =>
    cases e1 : gc_b (a3 1) s with
    | false => exact Or.inl (by rw [gc_not _ hs, gc_or, e0, e1]; rfl)
    | true =>
      refine Or.inr (Or.inr (fun z => ?_))
      rw [gc_sv3 h0 h1, if_pos e1] at z
      have t : gc_b (gc_p s &&& (((a3 0 ||| a3 1) ^^^ (-1)) ^^^ (-1))) s = false := by rw [z, gc_0]
      rw [gc_and, gc_ps hs, gc_not _ hs, gc_not _ hs, gc_or, e0, e1] at t
      cases t
theorem gc_s2 (g h : Int64) : ((g ||| h) &&& ((-1) ||| (g ^^^ (-1)))) &&& (0 ||| (h ^^^ (-1))) = g &&& (h ^^^ (-1)) := by
  refine gc_ext (fun i hi => ?_)
  rw [gc_and, gc_and, gc_and, gc_or, gc_or, gc_or, gc_not _ hi, gc_not _ hi, gc_m1 hi, gc_0]
  cases gc_b g i <;> cases gc_b h i <;> rfl
theorem gc_nn (x : Int64) : (x ^^^ (-1)) ^^^ (-1) = x := gc_ext (fun i hi => by rw [gc_not _ hi, gc_not _ hi, Bool.not_not])
theorem gc_lawOf (x y z w : Int32) : wpL_lawOf (fun r _ => r = 1) 1962 31392 () x y z w := by
  unfold wpL_lawOf
  refine ⟨by omega, by omega, 3, 1952, by omega, by omega, ?_⟩
  unfold wpX_init
  refine ⟨by omega, by omega, by omega, by omega, by omega, by omega, ?_⟩
  dsimp only
  intro g hg h hh
  clear hg hh
  refine gc_guard0 (fun _ => ?_)
  dsimp only
  refine gc_guard7 (fun _ => ?_)
  dsimp only
  have A0 : vp_updL (vp_updL (fun _ => 0) 0 g) 1 h 0 = g := by rw [pk_uLn (by decide), pk_uLs]
  have A1 : vp_updL (vp_updL (fun _ => 0) 0 g) 1 h 1 = h := by rw [pk_uLs]
  revert A0 A1
  generalize vp_updL (vp_updL (fun _ => 0) 0 g) 1 h = a3
  intro A0 A1
  refine gc_skip (k := 0) (by omega) (fun b1 _ p0 => ?_)
  dsimp only
  refine gc_fail (k := 1) (by omega) (fun b2 k1 p1 => ?_)
  dsimp only
  refine br_t rfl ?_
  have r0 : ∀ j, j < 64 → b2 (64 * 0 + j) = gc_p j := fun j hj => (k1 _ (by omega)).trans (p0 j hj)
  refine gc_choice (k := 2) (p := 0) (q := 1) (by omega) (by omega) (by omega) (fun b3 k2 p2 => ?_)
  have B0 : vp_updL (vp_updL (fun _ => (0 : Int64)) 0 (-1)) 1 0 0 = -1 := by rw [pk_uLn (by decide), pk_uLs]
  have B1 : vp_updL (vp_updL (fun _ => (0 : Int64)) 0 (-1)) 1 0 1 = 0 := by rw [pk_uLs]
  rw [A0, A1, B0, B1, gc_s2]
  dsimp only
  refine br_t rfl ?_
  have C1 : vp_updL (vp_updL (vp_updL (fun _ => (0 : Int64)) 0 (-1)) 1 0) 2 (g &&& (h ^^^ (-1))) 1 = 0 := by rw [pk_uLn (by decide), pk_uLs]
  have C2 : vp_updL (vp_updL (vp_updL (fun _ => (0 : Int64)) 0 (-1)) 1 0) 2 (g &&& (h ^^^ (-1))) 2 = g &&& (h ^^^ (-1)) := by rw [pk_uLs]
  revert C1 C2
  generalize vp_updL (vp_updL (vp_updL (fun _ => (0 : Int64)) 0 (-1)) 1 0) 2 (g &&& (h ^^^ (-1))) = a2
  intro C1 C2
  have q0 : ∀ j, j < 64 → b3 (64 * 0 + j) = gc_p j := fun j hj => (k2 _ (by omega)).trans (r0 j hj)
  have q1 : ∀ j, j < 64 → b3 (64 * 1 + j) = 0 := fun j hj => (k2 _ (by omega)).trans (p1 j hj)
  have q2 : ∀ j, j < 64 → b3 (64 * 2 + j) = if gc_b g j = true then gc_p j else 0 := fun j hj => by
    rw [p2 j hj, gc_sv2 (r0 j hj) (p1 j hj), A0]
  refine gc_loop (k := 3) (p := 1) (q := 0) (by omega) (by omega) (by omega) (fun j hj => gc_S (q1 j hj) (q0 j hj)) (fun j hj => gc_N hj (q1 j hj) (q0 j hj) C1) (fun b4 k3 p3 => ?_)
  rw [A0, A1] at p3
  rw [A0, A1]
  dsimp only
  refine br_t rfl ?_
  refine gc_sure (k := 4) (p := 2) (by omega) (by omega) (br_t ?_ ?_)
  · rw [pk_uLn (by decide)]
    exact C2
  refine gc_sure (k := 4) (p := 3) (by omega) (by omega) (br_t ?_ ?_)
  · rw [pk_uLs]
  obtain ⟨s, hs, es⟩ := pk_andE w (m := 63) 6 (by decide)
  have hs' : s < 64 := hs
  refine nm_r es ?_
  have W : ∀ z0 : Int64, b4 (64 * 2 + s) = z0 → wL_lawOf_185 (fun r _ => r = 1) 1962 31392 g h z0 (b4 (64 * 2 + s)) (1 + 3) (4 + 1952) (nI 4) b4 (vp_updL a2 3 ((g ||| h) ^^^ (-1))) a3 := by
    intro z0 e
    unfold wL_lawOf_185
    refine br_t e (gc_weak (k := 4) (p := 3) (by omega) (by omega) p3 (br_t ?_ rfl))
    exact gc_nn _
  have q3 : b4 (64 * 2 + s) = if gc_b g s = true then gc_p s else 0 := (k3 _ (by omega)).trans (q2 s hs')
  refine ek_if (gc_sb g hs') (fun e => ?_) (fun e => ?_)
  · rw [if_pos e] at q3
    unfold wL_lawOf_162
    exact gc_ends (k := 4) (p := 2) (by omega) (by omega) hs' (br_f (by decide) (W _ q3))
  · rw [if_neg e] at q3
    unfold wL_lawOf_162
    exact gc_ends (k := 4) (p := 2) (by omega) (by omega) hs' (br_t rfl (W _ q3))
theorem gc_cell {post : Int32 → Prop} {L : Nat} {xs : Nat → Int32} (hL : L ≤ 4) (k : Nat) (hk : k < 4) (H : ∀ r, post r) : wpL_cellAt post L xs () (nI k) :=
  pk_le L k (fun _ => H _) (fun z => ⟨pk_in k L z, H _⟩)
theorem i_vc (xs : Nat → Int32) (L : Nat) (hL : L ≤ 4) : wpL_law (fun r => r = 1) L xs := by
  unfold wpL_law
  exact gc_cell hL 0 (by omega) (fun r1 => gc_cell hL 1 (by omega) (fun r2 => gc_cell hL 2 (by omega) (fun r3 => gc_cell hL 3 (by omega) (fun r4 => ⟨1962, 31392, by omega, by omega, gc_lawOf r1 r2 r3 r4⟩))))
end
