section
/-! ===== the field: mul, inverse, quotient as pure functions, and the walks ===== -/
/-- the shifted factor's turn in mul -/
def kt_xt (x : Int32) : Int32 := if x <<< ((1 : Int32) &&& 31) < 128 then x <<< ((1 : Int32) &&& 31) else (x <<< ((1 : Int32) &&& 31)) ^^^ 131
/-- mul's loop: the pair (x, shifted) ahead of turn i -/
def kt_run (b a : Int32) : Nat → Int32 × Int32
  | 0 => (0, a)
  | i + 1 => (if ((b >>> (nI i &&& 31)) &&& 1) = 1 then (kt_run b a i).1 ^^^ (kt_run b a i).2 else (kt_run b a i).1, kt_xt (kt_run b a i).2)
def kt_mul (a b : Int32) : Int32 := (kt_run b a 7).1
/-- inverse's loop: the pair (x, square) ahead of its turn i + 1 -/
def kt_irun (a : Int32) : Nat → Int32 × Int32
  | 0 => (1, a)
  | i + 1 => (kt_mul (kt_irun a i).1 (kt_mul (kt_irun a i).2 (kt_irun a i).2), kt_mul (kt_irun a i).2 (kt_irun a i).2)
def kt_inv (a : Int32) : Int32 := (kt_irun a 6).1
def kt_in (a : Int32) : Prop := ¬ a < 0 ∧ a < 128
theorem kt_30 {post : Int32 → Prop} {J : Int32 → Int32 → Int32 → Prop} {x2 x3 x4 x5 f0 f1 f2 f3 f4 f5 f6 f7 : Int32} {g : Nat → Int32} (H : J x3 (kt_xt x4) (x5 + 1)) : wX_mul_30 post J x2 x3 x4 x5 f0 f1 f2 f3 f4 f5 f6 f7 g := by
  unfold wX_mul_30
  refine nm_e (br_c (fun h => nm_e ?_) (fun h => nm_e (nm_e ?_)))
  · have e : kt_xt x4 = x4 <<< ((1 : Int32) &&& 31) := if_pos h
    rw [e] at H
    exact H
  · have e : kt_xt x4 = (x4 <<< ((1 : Int32) &&& 31)) ^^^ 131 := if_neg h
    rw [e] at H
    exact H
theorem kt_8 {post : Int32 → Prop} {a b f0 f1 f2 f3 f4 f5 f6 f7 : Int32} {g : Nat → Int32} (H : post (kt_mul a b)) : ∃ n, wX_mul_8 post b f0 f1 f2 f3 f4 f5 f6 f7 g n 0 a 0 := by
  refine pk_loop (fun n i s => wX_mul_8 post b f0 f1 f2 f3 f4 f5 f6 f7 g n s.1 s.2 (nI i)) (fun i s => s = kt_run b a i) 7 0 (0, a) (by omega) rfl ?_ ?_
  · intro n s h
    exact pk_le 7 7 (fun _ => by rw [h]; exact H) (fun z => absurd z (by omega))
  · intro n i s hi h hw
    refine pk_le 7 i (fun z => absurd z (by omega)) (fun _ => br_c (fun c => nm_e (kt_30 ?_)) (fun c => kt_30 ?_))
    · rw [nI_1]
      refine hw (s.1 ^^^ s.2, kt_xt s.2) ?_
      show _ = (if ((b >>> (nI i &&& 31)) &&& 1) = 1 then (kt_run b a i).1 ^^^ (kt_run b a i).2 else (kt_run b a i).1, kt_xt (kt_run b a i).2)
      rw [if_pos c, ← h]
    · rw [nI_1]
      refine hw (s.1, kt_xt s.2) ?_
      show _ = (if ((b >>> (nI i &&& 31)) &&& 1) = 1 then (kt_run b a i).1 ^^^ (kt_run b a i).2 else (kt_run b a i).1, kt_xt (kt_run b a i).2)
      rw [if_neg c, ← h]
theorem kt_wmul {post : Int32 → Prop} {u : St2} {a b : Int32} (H : post (kt_mul a b)) : wpX_mul post u a b := by
  obtain ⟨f0, f1, f2, f3, f4, f5, f6, f7, g⟩ := u
  exact kt_8 H
theorem kt_7 {post : Int32 → Prop} {a f0 f1 f2 f3 f4 f5 f6 f7 : Int32} {g : Nat → Int32} (H : post (kt_inv a)) : ∃ n, wX_inverse_7 post f0 f1 f2 f3 f4 f5 f6 f7 g n 1 a 1 := by
  refine pk_loop (fun n i s => wX_inverse_7 post f0 f1 f2 f3 f4 f5 f6 f7 g n s.1 s.2 (nI (i + 1))) (fun i s => s = kt_irun a i) 6 0 (1, a) (by omega) rfl ?_ ?_
  · intro n s h
    exact pk_le 7 7 (fun _ => by rw [h]; exact H) (fun z => absurd z (by omega))
  · intro n i s hi h hw
    refine pk_le 7 (i + 1) (fun z => absurd z (by omega)) (fun _ => kt_wmul (kt_wmul (nm_r (nI_1 (i + 1)) ?_)))
    refine hw (kt_mul s.1 (kt_mul s.2 s.2), kt_mul s.2 s.2) ?_
    rw [h]
    rfl
theorem kt_winv {post : Int32 → Prop} {u : St2} {a : Int32} (H : post (kt_inv a)) : wpX_inverse post u a := by
  obtain ⟨f0, f1, f2, f3, f4, f5, f6, f7, g⟩ := u
  exact kt_7 H
theorem kt_wquo {post : Int32 → Prop} {u : St2} {a b : Int32} (H : post (kt_mul a (kt_inv b))) : wpX_quotient post u a b := by
  obtain ⟨f0, f1, f2, f3, f4, f5, f6, f7, g⟩ := u
  unfold wpX_quotient
  dsimp only
  refine kt_winv ?_
  exact kt_wmul H
theorem kt_wbe {post : Int32 → Prop} {u : St2} {p : Int32} (H0 : kt_in p → post 0) (H1 : ¬ kt_in p → post 1) : wpX_badElement post u p := by
  obtain ⟨f0, f1, f2, f3, f4, f5, f6, f7, g⟩ := u
  exact br_c (fun h => H1 (fun t => t.1 h)) (fun h => br_c (fun h2 => H0 ⟨h, h2⟩) (fun h2 => H1 (fun t => h2 t.2)))
theorem kt_wtimes {post : Int32 → Prop} {u : St2} {a b : Int32} (H0 : kt_in a → kt_in b → post (kt_mul a b)) (H1 : ¬ (kt_in a ∧ kt_in b) → post (-1)) : wpX_times post u a b := by
  obtain ⟨f0, f1, f2, f3, f4, f5, f6, f7, g⟩ := u
  unfold wpX_times
  dsimp only
  exact kt_wbe (fun ha => br_t rfl (kt_wbe (fun hb => br_t rfl (kt_wmul (H0 ha hb))) (fun hb => br_f (by decide) (H1 (fun t => hb t.2))))) (fun ha => br_f (by decide) (H1 (fun t => ha t.1)))
theorem kt_wover {post : Int32 → Prop} {u : St2} {a b : Int32} (H0 : kt_in a → kt_in b → ¬ b = 0 → post (kt_mul a (kt_inv b))) (H1 : ¬ (kt_in a ∧ kt_in b ∧ ¬ b = 0) → post (-1)) : wpX_over post u a b := by
  obtain ⟨f0, f1, f2, f3, f4, f5, f6, f7, g⟩ := u
  unfold wpX_over
  dsimp only
  exact kt_wbe (fun ha => br_t rfl (kt_wbe (fun hb => br_t rfl (br_c (fun z => H1 (fun t => t.2.2 z)) (fun z => kt_wquo (H0 ha hb z)))) (fun hb => br_f (by decide) (H1 (fun t => hb t.2.1))))) (fun ha => br_f (by decide) (H1 (fun t => ha t.1)))
end
section
/-! ===== the plain law of the field: over naturals below 128, by running through the table ===== -/
theorem nx_xor (a b : Nat) : nI a ^^^ nI b = nI (a ^^^ b) := by
  apply Int32.toBitVec_inj.1
  show BitVec.ofNat 32 a ^^^ BitVec.ofNat 32 b = BitVec.ofNat 32 (a ^^^ b)
  apply BitVec.eq_of_getLsbD_eq
  intro i hi
  simp [hi]
def kn_xt (x : Nat) : Nat := cond (Nat.ble 64 x) (Nat.xor (Nat.add x x) 131) (Nat.add x x)
def kn_bit (b i : Nat) : Bool := Nat.beq (Nat.land (Nat.shiftRight b i) 1) 1
/-- k turns of mul's loop from turn i on -/
def kn_go (b : Nat) : Nat → Nat → Nat → Nat → Nat
  | 0, _, x, _ => x
  | k + 1, i, x, s => kn_go b k (Nat.succ i) (cond (kn_bit b i) (Nat.xor x s) x) (kn_xt s)
def kn_mul (a b : Nat) : Nat := kn_go b 7 0 0 a
def kn_igo : Nat → Nat → Nat → Nat
  | 0, x, _ => x
  | k + 1, x, s => kn_igo k (kn_mul x (kn_mul s s)) (kn_mul s s)
def kn_inv (a : Nat) : Nat := kn_igo 6 1 a
theorem kn_xtL : ∀ x, x < 128 → kn_xt x < 128 := by decide +kernel
theorem kn_xtI : ∀ x, x < 128 → kt_xt (nI x) = nI (kn_xt x) := by decide +kernel
theorem kn_bitI : ∀ b, b < 128 → ∀ i, i < 7 → ((((nI b >>> (nI i &&& 31)) &&& 1) = 1) ↔ kn_bit b i = true) := by decide +kernel
theorem kn_xorL {x s : Nat} (hx : x < 128) (hs : s < 128) : Nat.xor x s < 128 := Nat.xor_lt_two_pow (n := 7) hx hs
theorem kn_goI {a : Int32} {b : Nat} (hb : b < 128) : ∀ k i x s, i + k = 7 → x < 128 → s < 128 → kt_run (nI b) a i = (nI x, nI s) → (kt_run (nI b) a 7).1 = nI (kn_go b k i x s) ∧ kn_go b k i x s < 128 := by
  intro k
  induction k with
  | zero =>
    intro i x s hi hx hs h
    have e : i = 7 := by omega
    subst e
    rw [h]
    exact ⟨rfl, hx⟩
  | succ k ih =>
    intro i x s hi hx hs h
    refine ih (i + 1) (cond (kn_bit b i) (Nat.xor x s) x) (kn_xt s) (by omega) ?_ (kn_xtL s hs) ?_
    · cases kn_bit b i with
      | true => exact kn_xorL hx hs
      | false => exact hx
    · show (if ((nI b >>> (nI i &&& 31)) &&& 1) = 1 then (kt_run (nI b) a i).1 ^^^ (kt_run (nI b) a i).2 else (kt_run (nI b) a i).1, kt_xt (kt_run (nI b) a i).2) = _
      rw [h, kn_xtI s hs]
      have hc := kn_bitI b hb i (by omega)
      cases hk : kn_bit b i with
      | true =>
        rw [if_pos (hc.mpr hk)]
        show (nI x ^^^ nI s, _) = _
        rw [nx_xor]
        rfl
      | false =>
        rw [if_neg (fun t => by rw [hc.mp t] at hk; exact Bool.noConfusion hk)]
        rfl
theorem kn_mulI {a b : Nat} (ha : a < 128) (hb : b < 128) : kt_mul (nI a) (nI b) = nI (kn_mul a b) ∧ kn_mul a b < 128 :=
  kn_goI hb 7 0 0 a (by omega) (by omega) ha rfl
theorem kn_igoI {a : Int32} : ∀ k i x s, i + k = 6 → x < 128 → s < 128 → kt_irun a i = (nI x, nI s) → (kt_irun a 6).1 = nI (kn_igo k x s) ∧ kn_igo k x s < 128 := by
  intro k
  induction k with
  | zero =>
    intro i x s hi hx hs h
    have e : i = 6 := by omega
    subst e
    rw [h]
    exact ⟨rfl, hx⟩
  | succ k ih =>
    intro i x s hi hx hs h
    have h1 := kn_mulI hs hs
    have h2 := kn_mulI hx h1.2
    refine ih (i + 1) (kn_mul x (kn_mul s s)) (kn_mul s s) (by omega) h2.2 h1.2 ?_
    show (kt_mul (kt_irun a i).1 (kt_mul (kt_irun a i).2 (kt_irun a i).2), kt_mul (kt_irun a i).2 (kt_irun a i).2) = _
    rw [h]
    show (kt_mul (nI x) (kt_mul (nI s) (nI s)), kt_mul (nI s) (nI s)) = _
    rw [h1.1, h2.1]
theorem kn_invI {c : Nat} (hc : c < 128) : kt_inv (nI c) = nI (kn_inv c) ∧ kn_inv c < 128 :=
  kn_igoI 6 0 1 c (by omega) (by omega) hc rfl
theorem kn_one : ∀ a, a < 128 → kn_mul a 1 = a := by decide +kernel
def kn_row (c : Nat) : Bool := (List.range 128).all fun a => Nat.beq (kn_mul (kn_mul a (kn_inv c)) c) a
theorem kn_rows : ((List.range 127).all fun c => kn_row (Nat.succ c)) = true := by decide +kernel
theorem kn_back {a c : Nat} (ha : a < 128) (h0 : 0 < c) (hc : c < 128) : kn_mul (kn_mul a (kn_inv c)) c = a := by
  have h := List.all_eq_true.mp kn_rows (c - 1) (List.mem_range.mpr (by omega))
  rw [show Nat.succ (c - 1) = c by omega] at h
  exact Nat.eq_of_beq_eq_true (List.all_eq_true.mp h a (List.mem_range.mpr ha))
theorem kt_inN {a : Int32} (h : kt_in a) : ∃ j : Nat, j < 128 ∧ a = nI j := by
  obtain ⟨j, hj, e⟩ := nI_of h.1
  refine ⟨j, ?_, e⟩
  have h2 := h.2
  rw [e] at h2
  exact (nI_ltI (b := 128) hj (by decide)).mp h2
theorem kt_inI {j : Nat} (h : j < 128) : kt_in (nI j) := ⟨nI_pos (by omega), nI_lt (b := 128) h (by decide)⟩
/-- b times 1 is b -/
theorem kt_one {b : Int32} (h : kt_in b) : kt_mul b 1 = b := by
  obtain ⟨j, hj, e⟩ := kt_inN h
  have t := (kn_mulI (b := 1) hj (by decide)).1
  rw [kn_one j hj] at t
  rw [e]
  exact t
/-- b over c, and back again -/
theorem kt_back {b c : Int32} (hb : kt_in b) (hc : kt_in c) (h0 : ¬ c = 0) : kt_in (kt_mul b (kt_inv c)) ∧ kt_mul (kt_mul b (kt_inv c)) c = b := by
  obtain ⟨j, hj, e⟩ := kt_inN hb
  obtain ⟨k, hk, e2⟩ := kt_inN hc
  have k0 : 0 < k := by
    rcases Nat.eq_zero_or_pos k with z | z
    · exact absurd (by rw [e2, z]; rfl) h0
    · exact z
  have h1 := kn_invI hk
  have h2 := kn_mulI hj h1.2
  have h3 := kn_mulI h2.2 hk
  rw [e, e2, h1.1, h2.1, h3.1, kn_back hj k0 hk]
  exact ⟨kt_inI h2.2, rfl⟩
end
section
/-! ===== points: the answer of bad is a function of the curve and the point ===== -/
def kt_onc (c p : Int32) : Int32 :=
  if (kt_mul (p &&& 127) (p &&& 127) ^^^ kt_mul (p >>> ((7 : Int32) &&& 31)) (p &&& 127)) = (kt_mul (kt_mul (p >>> ((7 : Int32) &&& 31)) (p >>> ((7 : Int32) &&& 31))) (p >>> ((7 : Int32) &&& 31)) ^^^ (if c = 1 then kt_mul (p >>> ((7 : Int32) &&& 31)) (p >>> ((7 : Int32) &&& 31)) else 0)) ^^^ 1 then 1 else 0
theorem kt_59 {post : Int32 → Prop} {x4 x5 z0 z1 f0 f1 f2 f3 f4 f5 f6 f7 : Int32} {g : Nat → Int32} (H : post (if (x4 ^^^ x5) = (z1 ^^^ z0) ^^^ 1 then 1 else 0)) : wX_onCurve_59 post x4 x5 z0 z1 f0 f1 f2 f3 f4 f5 f6 f7 g := by
  unfold wX_onCurve_59
  refine nm_e (br_c (fun h => ?_) (fun h => ?_))
  · rw [if_pos h] at H
    exact H
  · rw [if_neg h] at H
    exact H
theorem kt_wonc {post : Int32 → Prop} {p f0 f1 f2 f3 f4 f5 f6 f7 : Int32} {g : Nat → Int32} (H : post (kt_onc f0 p)) : wpX_onCurve post (f0, f1, f2, f3, f4, f5, f6, f7, g) p := by
  unfold kt_onc at H
  refine nm_e (nm_e (kt_wmul (kt_wmul (kt_wmul (kt_wmul (br_c (fun h => kt_59 ?_) (fun h => kt_59 ?_)))))))
  · rw [if_pos h] at H
    exact H
  · rw [if_neg h] at H
    exact H
/-- p is no point -/
def kt_bad (c p : Int32) : Prop := ¬ p = 16384 ∧ (p < 0 ∨ 16384 < p ∨ kt_onc c p = 0)
theorem kt_wbad {post : Int32 → Prop} {p f0 f1 f2 f3 f4 f5 f6 f7 : Int32} {g : Nat → Int32} (H0 : ¬ kt_bad f0 p → post 0) (H1 : kt_bad f0 p → post 1) : wpX_bad post (f0, f1, f2, f3, f4, f5, f6, f7, g) p := by
  refine br_c (fun h => H0 (fun t => t.1 h)) (fun h => br_c (fun h1 => H1 ⟨h, Or.inl h1⟩) (fun h1 => br_c (fun h2 => H1 ⟨h, Or.inr (Or.inl h2)⟩) (fun h2 => kt_wonc (br_c (fun h3 => H1 ⟨h, Or.inr (Or.inr h3)⟩) (fun h3 => H0 (fun t => ?_))))))
  rcases t.2 with z | z | z
  · exact h1 z
  · exact h2 z
  · exact h3 z
theorem kt_wpt {post : Int32 → Prop} {p f0 f1 f2 f3 f4 f5 f6 f7 : Int32} {g : Nat → Int32} (H0 : ¬ kt_bad f0 p → post 1) (H1 : kt_bad f0 p → post 0) : wpX_isPoint post (f0, f1, f2, f3, f4, f5, f6, f7, g) p := by
  unfold wpX_isPoint
  dsimp only
  exact kt_wbad (fun h => br_t rfl (H0 h)) (fun h => br_f (by decide) (H1 h))
theorem kt_notO (c : Int32) : ¬ kt_bad c 16384 := fun t => t.1 rfl
/-- a point lies in 0 .. 16384 -/
theorem kt_pt {c p : Int32} (h : ¬ kt_bad c p) : ¬ p < 0 ∧ ¬ 16384 < p := by
  by_cases e : p = 16384
  · rw [e]
    exact ⟨by decide, by decide⟩
  · exact ⟨fun z => h ⟨e, Or.inl z⟩, fun z => h ⟨e, Or.inr (Or.inl z)⟩⟩
/-! ===== multiples of O: any multiplier, any state ===== -/
theorem kt_sq {post : Int32 → Prop} {u : St2} (H : post 16384) : wpX_squared post u 16384 := by
  obtain ⟨f0, f1, f2, f3, f4, f5, f6, f7, g⟩ := u
  exact br_t rfl H
theorem kt_mi {post : Int32 → Prop} {u : St2} (H : post 16384) : wpX_minus post u 16384 := by
  obtain ⟨f0, f1, f2, f3, f4, f5, f6, f7, g⟩ := u
  exact br_t rfl H
theorem kt_su {post : Int32 → Prop} {u : St2} {q : Int32} (H : post q) : wpX_sum post u 16384 q := by
  obtain ⟨f0, f1, f2, f3, f4, f5, f6, f7, g⟩ := u
  exact br_t rfl H
theorem kt_33 {post : Int32 → St2 → Prop} {f0 f1 f2 f3 f4 f5 f6 f7 : Int32} {g : Nat → Int32} (H : post 16384 (f0, f1, f2, f3, f4, f5, f6, f7, g)) : ∀ d, d ≤ 40 → wX_multiplied_33 post 16384 f0 f1 f2 f3 f4 f5 f6 f7 g (d + 1) 16384 (nI d - 1) := by
  intro d
  induction d with
  | zero => exact fun _ => br_t (by decide) H
  | succ d ih =>
    intro hd
    have t := ih (by omega)
    have e : nI d + (-1) = nI d - 1 := (Int32.sub_eq_add_neg _ _).symm
    rw [nI_pred]
    have hv : vp_in (nI d) 40 := vp_in_nI (by omega) (by decide)
    exact br_f (nI_pos (by omega)) (kt_sq ⟨hv, br_c (fun _ => kt_su (nm_r e t)) (fun _ => ⟨hv, br_c (fun _ => kt_mi (kt_su (nm_r e t))) (fun _ => nm_r e t)⟩)⟩)
theorem kt_two {b : Int32} (h : 1 ≤ b) : ¬ 2 * b = 0 := by
  have h0 : ¬ b < 0 := by
    intro z
    have h1 := Int32.le_iff_toInt_le.mp h
    have h2 := Int32.lt_iff_toInt_lt.mp z
    have e1 : (1 : Int32).toInt = 1 := by decide
    have e0 : (0 : Int32).toInt = 0 := by decide
    omega
  obtain ⟨j, hj, e⟩ := nI_of h0
  have hj1 : 1 ≤ j := by
    rw [e] at h
    exact (nI_leI (a := 1) (by decide) hj).mp h
  intro z
  rw [e] at z
  have z2 : nI (2 * j) = nI 0 := by
    rw [← pk_mul]
    exact z
  have z3 := congrArg (fun x : Int32 => x.toBitVec.toNat) z2
  rw [pk_tn (by omega), pk_tn (by omega)] at z3
  omega
theorem kt_wround {post : Int32 → Prop} {u : St2} {a b : Int32} (H : ∀ r, post r) : wpX_rounded post u a b := by
  obtain ⟨f0, f1, f2, f3, f4, f5, f6, f7, g⟩ := u
  exact br_c (fun h => nm_e ⟨kt_two h, nm_e (br_c (fun _ => H _) (fun _ => br_c (fun _ => H _) (fun _ => H _)))⟩) (fun _ => H _)
theorem kt_wred {post : St2 → Prop} {k f0 f1 f2 f3 f4 f5 f6 f7 : Int32} {g : Nat → Int32} (H : ∀ pa pb, post (f0, f1, f2, f3, f4, pa, pb, f7, g)) : wpX_reduce post (f0, f1, f2, f3, f4, f5, f6, f7, g) k :=
  nm_e (kt_wround (fun _ => kt_wround (fun _ => nm_e (nm_e (H _ _)))))
theorem kt_70 {post : St2 → Prop} {J : Int32 → Int32 → Int32 → Int32 → (Nat → Int32) → Prop} {i : Nat} {x3 f0 f1 f2 f3 f4 f5 f6 : Int32} {g : Nat → Int32} (hi : i < 40) (H : ∀ pa pb am, J (nI (i + 1)) pa pb (nI (i + 1)) am) : wX_recode_70 post J (nI i) x3 f0 f1 f2 f3 f4 f5 f6 (nI i) g :=
  ⟨vp_in_nI hi (by decide), nm_e (nm_r (nI_1 i) ⟨by decide, nm_e (nm_e (nm_e (nm_r (nI_1 i) (H _ _ _))))⟩)⟩
theorem kt_32 {post : St2 → Prop} {J : Int32 → Int32 → Int32 → Int32 → (Nat → Int32) → Prop} {i : Nat} {f0 f1 f2 f3 f4 f5 f6 : Int32} {g : Nat → Int32} (hi : i < 40) (H : ∀ pa pb am, J (nI (i + 1)) pa pb (nI (i + 1)) am) : wX_recode_32 post J (nI i) f0 f1 f2 f3 f4 f5 f6 (nI i) g :=
  br_c (fun _ => nm_e (nm_e (kt_70 hi H))) (fun _ => kt_70 hi H)
theorem kt_12 {post : St2 → Prop} {f0 f1 f2 f3 f4 : Int32} (H : ∀ (d : Nat) (pa pb : Int32) (am : Nat → Int32), d ≤ 40 → post (f0, f1, f2, f3, f4, pa, pb, nI d, am)) : ∀ c i pa pb am, i + c = 40 → wX_recode_12 post f0 f1 f2 f3 f4 (c + 1) (nI i) pa pb (nI i) am := by
  intro c
  induction c with
  | zero =>
    intro i pa pb am h
    have e : i = 40 := by omega
    subst e
    exact br_t (by decide) (H 40 pa pb am (by omega))
  | succ c ih =>
    intro i pa pb am h
    have t : wX_recode_32 post (wX_recode_12 post f0 f1 f2 f3 f4 (c + 1)) (nI i) f0 f1 f2 f3 f4 pa pb (nI i) am := kt_32 (by omega) (fun pa pb am => ih (i + 1) pa pb am (by omega))
    exact br_f (nI_ge (b := 40) (by omega) (by decide)) (br_c (fun _ => br_c (fun _ => H i pa pb am (by omega)) (fun _ => t)) (fun _ => t))
theorem kt_wrec {post : St2 → Prop} {k f0 f1 f2 f3 f4 f5 f6 f7 : Int32} {g : Nat → Int32} (H : ∀ (d : Nat) (pa pb : Int32) (am : Nat → Int32), d ≤ 40 → post (f0, f1, f2, f3, f4, pa, pb, nI d, am)) : wpX_recode post (f0, f1, f2, f3, f4, f5, f6, f7, g) k := by
  unfold wpX_recode
  dsimp only
  exact kt_wred (fun pa pb => ⟨41, kt_12 H 40 0 pa pb g (by omega)⟩)
theorem kt_18 {post : Int32 → St2 → Prop} {k f0 f1 f2 f3 f4 f5 f6 f7 : Int32} {g : Nat → Int32} (H : ∀ v, post 16384 v) : wX_multiplied_18 post 16384 k f0 f1 f2 f3 f4 f5 f6 f7 g := by
  unfold wX_multiplied_18
  exact kt_wrec (fun d pa pb am hd => nm_e ⟨d + 1, kt_33 (H _) d hd⟩)
theorem kt_wmO {post : Int32 → St2 → Prop} {u : St2} {k : Int32} (H : ∀ v, post 16384 v) : wpX_multiplied post u k 16384 := by
  obtain ⟨f0, f1, f2, f3, f4, f5, f6, f7, g⟩ := u
  exact br_c (fun _ => kt_18 H) (fun h => ⟨fun z => h (by rw [z]; decide), kt_18 H⟩)
theorem kt_wbm {post : Int32 → Prop} {u : St2} {k : Int32} (H0 : ¬ k < (-1000000) → ¬ 1000000 < k → post 0) (H1 : k < (-1000000) ∨ 1000000 < k → post 1) : wpX_badMultiplier post u k := by
  obtain ⟨f0, f1, f2, f3, f4, f5, f6, f7, g⟩ := u
  exact br_c (fun h => H1 (Or.inl h)) (fun h => br_c (fun h2 => H0 h (Int32.not_lt.mpr h2)) (fun h2 => H1 (Or.inr (Int32.not_le.mp h2))))
/-- multiple(k, O) -/
theorem kt_many {post : Int32 → St2 → Prop} {u : St2} {k : Int32} (H0 : ¬ k < (-1000000) → ¬ 1000000 < k → ∀ v, post 16384 v) (H1 : k < (-1000000) ∨ 1000000 < k → ∀ v, post (-1) v) : wpX_multiple post u k 16384 := by
  obtain ⟨f0, f1, f2, f3, f4, f5, f6, f7, g⟩ := u
  unfold wpX_multiple
  dsimp only
  exact kt_wbad (fun _ => br_t rfl (kt_wbm (fun h h2 => br_t rfl (kt_wmO (fun v => H0 h h2 v))) (fun h => br_f (by decide) (H1 h _)))) (fun h => absurd h (kt_notO f0))
/-! ===== the multiple by 0: the two states that the maker leaves ===== -/
def kt_st (c n m a b : Int32) : Prop := (c = 1 ∧ n = 142 ∧ m = 1 ∧ a = -11 ∧ b = 7) ∨ (c = 0 ∧ n = 116 ∧ m = -1 ∧ a = 9 ∧ b = 7)
theorem kt_wm0 {post : Int32 → St2 → Prop} {p c n m a b f5 f6 f7 : Int32} {g : Nat → Int32} (hs : kt_st c n m a b) (H : ∀ v, post 16384 v) : wpX_multiplied post (c, n, m, a, b, f5, f6, f7, g) 0 p := by
  rcases hs with ⟨rfl, rfl, rfl, rfl, rfl⟩ | ⟨rfl, rfl, rfl, rfl, rfl⟩
  all_goals
    refine br_f (by decide) ⟨by decide, ?_⟩
    unfold wX_multiplied_18
    unfold wpX_recode
    dsimp only
    unfold wpX_reduce
    dsimp only
    refine nm_e (br_t (by decide) (nm_e ⟨by decide, nm_e (br_t (by decide) ?_)⟩))
    refine br_t (by decide) (nm_e ⟨by decide, nm_e (br_t (by decide) ?_)⟩)
    refine nm_r (e' := 0) (by decide) (nm_r (e' := 0) (by decide) ?_)
    exact ⟨1, br_f (by decide) (br_t rfl (br_t rfl (nm_r (e' := -1) (show (0 : Int32) - 1 = -1 by decide) ⟨1, br_t (by decide) (H _)⟩)))⟩
theorem kt_none {post : Int32 → St2 → Prop} {p c n m a b f5 f6 f7 : Int32} {g : Nat → Int32} (hs : kt_st c n m a b) (H0 : ¬ kt_bad c p → ∀ v, post 16384 v) (H1 : kt_bad c p → ∀ v, post (-1) v) : wpX_multiple post (c, n, m, a, b, f5, f6, f7, g) 0 p := by
  unfold wpX_multiple
  dsimp only
  exact kt_wbad (fun h => br_t rfl (kt_wbm (fun _ _ => br_t rfl (kt_wm0 hs (fun v => H0 h v))) (fun z => absurd z (by decide)))) (fun h => br_f (by decide) (H1 h _))
/-! ===== the maker ===== -/
theorem kt_init {post : St2 → Prop} {a : Int32} (H : ∀ c n m d e, kt_st c n m d e → post (c, n, m, d, e, 0, 0, 0, fun _ => 0)) : wpX_init post 1 40 (0, 0, 0, 0, 0, 0, 0, 0) a := by
  refine ⟨by decide, by decide, br_c (fun h => br_t h ⟨8, ?_⟩) (fun h => br_f h ⟨8, ?_⟩)⟩
  · have t := H 1 142 1 (-11) 7 (Or.inl ⟨rfl, rfl, rfl, rfl, rfl⟩)
    refine br_f (by decide) (nm_e (nm_e (nm_e ?_)))
    refine br_f (by decide) (nm_e (nm_e (nm_e ?_)))
    refine br_f (by decide) (nm_e (nm_e (nm_e ?_)))
    refine br_f (by decide) (nm_e (nm_e (nm_e ?_)))
    refine br_f (by decide) (nm_e (nm_e (nm_e ?_)))
    refine br_f (by decide) (nm_e (nm_e (nm_e ?_)))
    refine br_f (by decide) (nm_r (e' := -10) (by decide) (nm_r (e' := 7) (by decide) (nm_e ?_)))
    exact br_t (by decide) (nm_r (e' := -11) (by decide) (nm_r (e' := 142) (by decide) t))
  · have t := H 0 116 (-1) 9 7 (Or.inr ⟨rfl, rfl, rfl, rfl, rfl⟩)
    refine br_f (by decide) (nm_e (nm_e (nm_e ?_)))
    refine br_f (by decide) (nm_e (nm_e (nm_e ?_)))
    refine br_f (by decide) (nm_e (nm_e (nm_e ?_)))
    refine br_f (by decide) (nm_e (nm_e (nm_e ?_)))
    refine br_f (by decide) (nm_e (nm_e (nm_e ?_)))
    refine br_f (by decide) (nm_e (nm_e (nm_e ?_)))
    refine br_f (by decide) (nm_r (e' := 10) (by decide) (nm_r (e' := 7) (by decide) (nm_e ?_)))
    exact br_t (by decide) (nm_r (e' := 9) (by decide) (nm_r (e' := 116) (by decide) t))
end
section
/-! ===== the law's checks, from the last to the first ===== -/
theorem kt_195 {post : Int32 → St0 → Prop} {mc ms kc ks : Nat} {k r : Int32} (H : post 1 ()) (hr : (¬ k < (-1000000) ∧ ¬ 1000000 < k ∧ r = 16384) ∨ ((k < (-1000000) ∨ 1000000 < k) ∧ r = -1)) : wL_lawOf_195 post mc ms k r kc ks := by
  rcases hr with ⟨h1, h2, h3⟩ | ⟨h1, h3⟩
  · exact br_f h1 (br_f h2 (br_t h3 H))
  · exact br_c (fun _ => br_t h3 H) (fun z => br_t (h1.resolve_left z) (br_t h3 H))
theorem kt_160 {post : Int32 → St0 → Prop} {mc ms kc ks : Nat} {p k r9 r10 r : Int32} (H : wL_lawOf_195 post mc ms k r kc ks) (hp : (r9 = 0 ∧ r10 = -1) ∨ (r9 = 1 ∧ r10 = 16384 ∧ ¬ p < 0 ∧ ¬ 16384 < p)) : wL_lawOf_160 post mc ms p k r9 r10 r kc ks := by
  rcases hp with ⟨h1, h2⟩ | ⟨h1, h2, h3, h4⟩
  · exact br_t h1 (br_t h2 (br_t h1 H))
  · have n : ¬ r9 = 0 := by
      rw [h1]
      decide
    exact br_f n (br_f n (br_t h2 (br_f h3 (br_f h4 H))))
/-- what the three field calls answer -/
def kt_fld (b c r6 r7 r8 : Int32) : Prop := (kt_in b → r6 = b) ∧ (¬ kt_in b → r6 = -1) ∧ (kt_in b → kt_in c → ¬ c = 0 → kt_in r7 ∧ r8 = b) ∧ (¬ (kt_in b ∧ kt_in c ∧ ¬ c = 0) → r7 = -1 ∧ r8 = -1)
theorem kt_le127 {x : Int32} : ¬ 127 < x ↔ x < 128 := by
  rw [Int32.lt_iff_toInt_lt, Int32.lt_iff_toInt_lt, show (127 : Int32).toInt = 127 by decide, show (128 : Int32).toInt = 128 by decide]
  omega
theorem kt_ge1 {x : Int32} : ¬ x < 1 ↔ ¬ x < 0 ∧ ¬ x = 0 := by
  rw [Int32.lt_iff_toInt_lt, Int32.lt_iff_toInt_lt, ← Int32.toInt_inj, show (1 : Int32).toInt = 1 by decide, show (0 : Int32).toInt = 0 by decide]
  omega
/-- the two field checks -/
theorem kt_chk {post : Int32 → St0 → Prop} {mc ms kc ks : Nat} {b c p k r6 r7 r8 r9 r10 r : Int32} (hf : kt_fld b c r6 r7 r8) (H : wL_lawOf_160 post mc ms p k r9 r10 r kc ks) :
    ((b < 0 → (wL_lawOf_81 post mc ms b c p k r6 r7 r8 r9 r10 r kc ks)) ∧ (¬ b < 0 → (((127 < b → (wL_lawOf_81 post mc ms b c p k r6 r7 r8 r9 r10 r kc ks)) ∧ (¬ 127 < b → (wL_lawOf_82 post mc ms b c p k r6 r7 r8 r9 r10 r 1 kc ks)))))) := by
  obtain ⟨f1, f2, f3, f4⟩ := hf
  have out : ¬ kt_in b → wL_lawOf_81 post mc ms b c p k r6 r7 r8 r9 r10 r kc ks := by
    intro hb
    have g := f4 (fun t => hb t.1)
    have T : wL_lawOf_148 post mc ms p k r7 r8 r9 r10 r kc ks := br_t g.1 (br_t g.2 H)
    have T1 : ∀ z, wL_lawOf_100 post mc ms b p k r6 r7 r8 r9 r10 r 0 z kc ks := fun z => br_t rfl (br_t (f2 hb) (br_t rfl T))
    exact br_c (fun _ => T1 0) (fun _ => br_c (fun _ => T1 0) (fun _ => T1 1))
  refine br_c (fun h => out (fun t => t.1 h)) (fun h => br_c (fun h2 => out (fun t => kt_le127.mpr t.2 h2)) (fun h2 => ?_))
  have hb : kt_in b := ⟨h, kt_le127.mp h2⟩
  have off : ¬ (kt_in c ∧ ¬ c = 0) → wL_lawOf_99 post mc ms b p k r6 r7 r8 r9 r10 r 1 kc ks := by
    intro hc
    have g := f4 (fun t => hc t.2)
    have T : wL_lawOf_148 post mc ms p k r7 r8 r9 r10 r kc ks := br_t g.1 (br_t g.2 H)
    exact br_f (by decide) (br_t (f1 hb) (br_f (by decide) (br_t rfl T)))
  refine br_c (fun z => off (fun t => kt_ge1.mpr ⟨t.1.1, t.2⟩ z)) (fun z => br_c (fun z2 => off (fun t => kt_le127.mpr t.1.2 z2)) (fun z2 => ?_))
  have hz := kt_ge1.mp z
  have g := f3 hb ⟨hz.1, kt_le127.mp z2⟩ hz.2
  exact br_f (by decide) (br_t (f1 hb) (br_f (by decide) (br_f (by decide) (br_f g.1.1 (br_f (kt_le127.mpr g.1.2) (br_t g.2 H))))))
theorem kt_lawOf {post : Int32 → St0 → Prop} {a b c p k : Int32} (H : post 1 ()) : wpL_lawOf post 2 49 () a b c p k := by
  refine ⟨by decide, by decide, 1, 40, by decide, by decide, kt_init (fun fc n m d e hs => ?_)⟩
  have P : ∀ r6 r7 r8, kt_fld b c r6 r7 r8 → wpX_isPoint (fun r9 => wpX_multiple (fun r10 u => wpX_multiple (fun r _ => ((b < 0 → (wL_lawOf_81 post 2 49 b c p k r6 r7 r8 r9 r10 r (1 + 1) (9 + 40))) ∧ (¬ b < 0 → (((127 < b → (wL_lawOf_81 post 2 49 b c p k r6 r7 r8 r9 r10 r (1 + 1) (9 + 40))) ∧ (¬ 127 < b → (wL_lawOf_82 post 2 49 b c p k r6 r7 r8 r9 r10 r 1 (1 + 1) (9 + 40)))))))) u k 16384) (fc, n, m, d, e, 0, 0, 0, fun _ => 0) 0 p) (fc, n, m, d, e, 0, 0, 0, fun _ => 0) p := by
    intro r6 r7 r8 hf
    refine kt_wpt (fun hp => kt_none hs (fun _ v => kt_many (fun h1 h2 _ => ?_) (fun h1 _ => ?_)) (fun z => absurd z hp)) (fun hp => kt_none hs (fun z => absurd hp z) (fun _ v => kt_many (fun h1 h2 _ => ?_) (fun h1 _ => ?_)))
    · exact kt_chk hf (kt_160 (kt_195 H (Or.inl ⟨h1, h2, rfl⟩)) (Or.inr ⟨rfl, rfl, kt_pt hp⟩))
    · exact kt_chk hf (kt_160 (kt_195 H (Or.inr ⟨h1, rfl⟩)) (Or.inr ⟨rfl, rfl, kt_pt hp⟩))
    · exact kt_chk hf (kt_160 (kt_195 H (Or.inl ⟨h1, h2, rfl⟩)) (Or.inl ⟨rfl, rfl⟩))
    · exact kt_chk hf (kt_160 (kt_195 H (Or.inr ⟨h1, rfl⟩)) (Or.inl ⟨rfl, rfl⟩))
  have no : ¬ kt_in (-1) := fun t => t.1 (by decide)
  refine kt_wtimes (fun hb h1 => ?_) (fun hn => ?_)
  · refine kt_wover (fun _ hc h0 => ?_) (fun hn => ?_)
    · have g := kt_back hb hc h0
      refine kt_wtimes (fun _ _ => ?_) (fun z => absurd ⟨g.1, hc⟩ z)
      exact P _ _ _ ⟨fun _ => kt_one hb, fun z => absurd hb z, fun _ _ _ => g, fun z => absurd ⟨hb, hc, h0⟩ z⟩
    · refine kt_wtimes (fun z _ => absurd z no) (fun _ => ?_)
      exact P _ _ _ ⟨fun _ => kt_one hb, fun z => absurd hb z, fun z1 z2 z3 => absurd ⟨z1, z2, z3⟩ hn, fun _ => ⟨rfl, rfl⟩⟩
  · have hb : ¬ kt_in b := fun t => hn ⟨t, by decide, by decide⟩
    refine kt_wover (fun z _ _ => absurd z hb) (fun _ => ?_)
    refine kt_wtimes (fun z _ => absurd z no) (fun _ => ?_)
    exact P _ _ _ ⟨fun z => absurd z hb, fun _ => rfl, fun z _ _ => absurd z hb, fun _ => ⟨rfl, rfl⟩⟩
/-- a cell of the script -/
theorem kt_cell {post : Int32 → Prop} {L : Nat} {xs : Nat → Int32} {u : St0} {i : Nat} (hL : L ≤ 5) (hi : i < 5) (H : ∀ r, post r) : wpL_cellAt post L xs u (nI i) :=
  br_c (fun _ => H _) (fun h => ⟨vp_in_nI (by
    rcases Nat.lt_or_ge i L with z | z
    · exact z
    · exact absurd (nI_le z (by omega)) h) (by omega), H _⟩)
theorem i_vc (xs : Nat → Int32) (L : Nat) (hL : L ≤ 5) : wpL_law (fun r => r = 1) L xs := by
  refine kt_cell (i := 0) hL (by decide) (fun a => ?_)
  refine kt_cell (i := 1) hL (by decide) (fun b => ?_)
  refine kt_cell (i := 2) hL (by decide) (fun c => ?_)
  refine kt_cell (i := 3) hL (by decide) (fun p => ?_)
  refine kt_cell (i := 4) hL (by decide) (fun k => ?_)
  exact ⟨2, 49, by decide, by decide, kt_lawOf rfl⟩
end
