section
/-! plain laws of rests: no program in sight -/
theorem qd_sq (r s m k : Nat) : r * (s * s % m) ^ k % m = r * s ^ (2 * k) % m := by
  rw [Nat.mul_mod r ((s * s % m) ^ k) m, ← Nat.pow_mod (s * s) k m, ← Nat.mul_mod r ((s * s) ^ k) m, Nat.pow_mul, Nat.pow_two]
/-- the exponent is even -/
theorem qd_even (r s m e : Nat) (h : e % 2 = 0) : r * (s * s % m) ^ (e / 2) % m = r * s ^ e % m := by
  rw [qd_sq r s m (e / 2), show 2 * (e / 2) = e by omega]
/-- the exponent is odd -/
theorem qd_odd (r s m e : Nat) (h : ¬ e % 2 = 0) : (r * s % m) * (s * s % m) ^ (e / 2) % m = r * s ^ e % m := by
  have h1 : s ^ e = s * s ^ (2 * (e / 2)) := by
    rw [Nat.mul_comm s, ← Nat.pow_succ]
    exact congrArg (fun t => s ^ t) (by omega)
  rw [qd_sq (r * s % m) s m (e / 2), Nat.mul_mod (r * s % m) (s ^ (2 * (e / 2))) m, Nat.mod_mod, ← Nat.mul_mod (r * s) (s ^ (2 * (e / 2))) m, h1, Nat.mul_assoc]
/-- where the loop begins: 1 and the base, both as rests -/
theorem qd_start (b m e : Nat) : (1 % m) * (b % m) ^ e % m = b ^ e % m := by
  rw [Nat.mul_mod (1 % m) ((b % m) ^ e) m, Nat.mod_mod, ← Nat.mul_mod 1 ((b % m) ^ e) m, Nat.one_mul, ← Nat.pow_mod b e m]
/-- a product of two numbers below m is small -/
theorem qd_small {a b m : Nat} (hm : m ≤ 30000) (ha : a < m) (hb : b < m) : a * b ≤ 900000000 :=
  Nat.le_trans (Nat.mul_le_mul (show a ≤ 30000 by omega) (show b ≤ 30000 by omega)) (by decide)
theorem qd_uv {u v : Nat} (hu : u ≤ 169) (hv : v ≤ 169) : u * v ≤ 30000 :=
  Nat.le_trans (Nat.mul_le_mul hu hv) (by decide)
/-- the law's three answers -/
theorem qd_add (b u v m : Nat) : b ^ (u + v) % m = (b ^ u % m) * (b ^ v % m) % m := by
  rw [Nat.pow_add, Nat.mul_mod]
theorem qd_mul (b u v m : Nat) : (b ^ u % m) ^ v % m = b ^ (u * v) % m := by
  rw [← Nat.pow_mod (b ^ u) v m, ← Nat.pow_mul]
theorem qd_self (m u : Nat) : m ^ (1 + u) % m = 0 := by
  rw [Nat.add_comm, Nat.pow_succ]
  exact Nat.mul_mod_left (m ^ u) m
end
section
/-! one lemma a method -/
theorem qd_times {post : Int32 → Prop} {f0 f1 f2 f3 : Int32} {a1 a2 : Nat → Int32} {a b m : Nat} (h0 : 0 < m) (hm : m ≤ 30000) (ha : a < m) (hb : b < m) (hp : post (nI (a * b % m))) : wpX_timesRest post (f0, f1, f2, f3, a1, a2) (nI a) (nI b) (nI m) := by
  have hs : a * b ≤ 900000000 := qd_small hm ha hb
  have e : (((nI a).toInt64 * (nI b).toInt64) - ((nI a).toInt64 * (nI b).toInt64) / (nI m).toInt64 * (nI m).toInt64).toInt32 = nI (a * b % m) := by
    rw [nI_l (n := a) (by omega), nI_l (n := b) (by omega), nI_l (n := m) (by omega), lN_mul, pk_lRem (by omega) h0 (by omega), lN_i]
  have n0 : ¬ (nI m).toInt64 = 0 := by
    rw [nI_l (n := m) (by omega)]
    intro z
    have z' : lN m = lN 0 := z
    rw [lN_eq (by omega) (by omega)] at z'
    omega
  refine And.intro n0 ?_
  rw [e]
  exact hp
/-- the loop of powerRest: whatever stands in result and square, result * square ^ e is kept -/
theorem qd_loop {post : Int32 → Prop} {f0 f1 f2 f3 : Int32} {a1 a2 : Nat → Int32} {m : Nat} (h0 : 0 < m) (hm : m ≤ 30000) : ∀ (n r s e : Nat), e < n → e < 2 ^ 31 → r < m → s < m → post (nI (r * s ^ e % m)) → wX_powerRest_13 post (nI m) f0 f1 f2 f3 a1 a2 n (nI r) (nI s) (nI e) := by
  intro n
  induction n with
  | zero => intro r s e he; exact absurd he (by omega)
  | succ n ih =>
    intro r s e he h31 hr hs hp
    have hsh : nI e >>> ((1 : Int32) &&& 31) = nI (e / 2) := pk_shrN h31 ((1 : Int32) &&& 31) 1 (by decide)
    have han : nI e &&& 1 = nI (e % 2) := pk_andN (by omega) 1 (by decide)
    have step : ∀ r' : Nat, r' < m → r' * (s * s % m) ^ (e / 2) % m = r * s ^ e % m → 0 < e → wX_powerRest_36 post (wX_powerRest_13 post (nI m) f0 f1 f2 f3 a1 a2 n) (nI m) (nI r') (nI s) (nI e) f0 f1 f2 f3 a1 a2 := by
      intro r' hr' heq hpos
      unfold wX_powerRest_36
      refine qd_times h0 hm hs hs (nm_r hsh ?_)
      refine ih r' (s * s % m) (e / 2) (by omega) (by omega) hr' (Nat.mod_lt _ h0) ?_
      rw [heq]
      exact hp
    refine pk_le e 0 (fun z => ?_) (fun z => ?_)
    · have he0 : e = 0 := by omega
      have hv : r * s ^ e % m = r := by rw [he0, Nat.pow_zero, Nat.mul_one, Nat.mod_eq_of_lt hr]
      rw [hv] at hp
      exact hp
    · refine pk_eq (e % 2) 0 (fun k => step r hr (qd_even r s m e k) z) (fun k => ?_) han
      exact qd_times h0 hm hr hs (step (r * s % m) (Nat.mod_lt _ h0) (qd_odd r s m e k) z)
/-- power: the rest of b ^ e -/
theorem qd_power {post : Int32 → Prop} {f1 f2 f3 : Int32} {a1 a2 : Nat → Int32} {m : Nat} {x y : Int32} (b e : Nat) (h0 : 0 < m) (hm : m ≤ 30000) (hb : b ≤ 30000) (he : e ≤ 30000) (hx : x = nI b) (hy : y = nI e) (hp : post (nI (b ^ e % m))) : wpX_power post (nI m, f1, f2, f3, a1, a2) x y := by
  subst hx hy
  have m0 : ¬ nI m = 0 := nI_ne0 h0 (by omega)
  have e1 : (1 : Int32) - 1 / nI m * nI m = nI (1 % m) := pk_rem (a := 1) (by omega) h0 (by omega)
  have e2 : nI b - nI b / nI m * nI m = nI (b % m) := pk_rem (by omega) h0 (by omega)
  have lp : wX_powerRest_13 (fun r => post r) (nI m) (nI m) f1 f2 f3 a1 a2 (e + 1) (nI (1 % m)) (nI (b % m)) (nI e) := by
    refine qd_loop h0 hm (e + 1) (1 % m) (b % m) e (by omega) (by omega) (Nat.mod_lt _ h0) (Nat.mod_lt _ h0) ?_
    rw [qd_start]
    exact hp
  have pr : wpX_powerRest (fun r => post r) (nI m, f1, f2, f3, a1, a2) (nI b) (nI e) (nI m) :=
    And.intro m0 (nm_r e1 (And.intro m0 (nm_r e2 ⟨e + 1, lp⟩)))
  have b2 : ¬ (30000 : Int32) < nI b := nI_nlt (a := 30000) hb (by omega)
  have e3 : nI e ≤ (30000 : Int32) := nI_le (b := 30000) he (by omega)
  exact br_f (nI_pos (by omega)) (br_f b2 (br_f (nI_pos (by omega)) (br_t e3 pr)))
theorem qd_init {post : St2 → Prop} {mc ms : Nat} {f0 f1 f2 f3 : Int32} (h1 : 2 ≤ mc) (h2 : 40 ≤ ms) (hp : post (1, f1, f2, f3, (fun _ => 0), (fun _ => 0))) : wpX_init post mc ms (f0, f1, f2, f3) :=
  And.intro (show 1 ≤ mc by omega) (And.intro (show 20 ≤ ms by omega) (And.intro h1 (And.intro h2 hp)))
theorem qd_take {post : Int32 → St2 → Prop} {f0 f1 f2 f3 : Int32} {a1 a2 : Nat → Int32} {m : Nat} (h0 : 0 < m) (hm : m ≤ 30000) (hp : post 1 (nI m, 0, f2, f3, a1, a2)) : wpX_take post (f0, f1, f2, f3, a1, a2) (nI m) := by
  have c1 : ¬ nI m < (1 : Int32) := nI_nlt (b := 1) h0 (by omega)
  have c2 : nI m ≤ (30000 : Int32) := nI_le (b := 30000) hm (by omega)
  exact br_f c1 (br_t c2 hp)
end
section
/-! the law -/
/-- the law's last two checks, c the base or 30000 -/
theorem qd_last {post : Int32 → St0 → Prop} {mc ms kc ks : Nat} {f1 f2 f3 : Int32} {a1 a2 : Nat → Int32} {m u c : Nat} (h0 : 0 < m) (hm : m ≤ 30000) (hu : u ≤ 169) (hc : c ≤ 30000) (hp : post 1 ()) : wL_lawOf_147 post mc ms (nI m) (nI u) (nI c) kc ks (nI m) f1 f2 f3 a1 a2 := by
  have m0 : ¬ nI m = 0 := nI_ne0 h0 (by omega)
  have hcm : c % m ≤ 30000 := Nat.le_trans (Nat.mod_le c m) hc
  have e1 : nI c - nI c / nI m * nI m = nI (c % m) := pk_rem (by omega) h0 (by omega)
  have e2 : (1 : Int32) + nI u = nI (1 + u) := nI_add 1 u
  have e3 : nI (m ^ (1 + u) % m) = 0 := by rw [qd_self]; rfl
  unfold wL_lawOf_147
  refine And.intro m0 (qd_power (c % m) u h0 hm hcm (by omega) e1 rfl ?_)
  refine qd_power c u h0 hm hc (by omega) rfl rfl ?_
  refine br_t (congrArg nI (Nat.pow_mod c u m).symm) ?_
  exact qd_power m (1 + u) h0 hm hm (by omega) rfl e2 (br_t e3 hp)
/-- the law behind take: p, q and the checks -/
theorem qd_masked (x : Int32) (d : Nat) (hd : 0 < d) (hd2 : d < 2 ^ 31) : ∃ j : Nat, j < d ∧ (x &&& 1048575) - (x &&& 1048575) / nI d * nI d = nI j := by
  obtain ⟨i, hi, e⟩ := pk_andE x (m := 1048575) 20 (by decide)
  refine ⟨i % d, Nat.mod_lt _ hd, ?_⟩
  rw [e]
  exact pk_rem (by omega) hd hd2
theorem qd_lawOf {post : Int32 → St0 → Prop} (p0 p1 p2 p3 : Int32) (hp : post 1 ()) : wpL_lawOf post 3 46 () p0 p1 p2 p3 := by
  obtain ⟨m', hm', em⟩ := qd_masked p0 30000 (by decide) (by decide)
  obtain ⟨b, hb', eb⟩ := qd_masked p1 30001 (by decide) (by decide)
  obtain ⟨u, hu', eu⟩ := qd_masked p2 170 (by decide) (by decide)
  obtain ⟨v, hv', ev⟩ := qd_masked p3 170 (by decide) (by decide)
  have em1 : (1 : Int32) + ((p0 &&& 1048575) - (p0 &&& 1048575) / nI 30000 * nI 30000) = nI (1 + m') := by
    rw [em]
    exact nI_add 1 m'
  have h0 : 0 < 1 + m' := by omega
  have hm : 1 + m' ≤ 30000 := by omega
  generalize 1 + m' = m at em1 h0 hm
  have hb : b ≤ 30000 := by omega
  have hu : u ≤ 169 := by omega
  have hv : v ≤ 169 := by omega
  have huv : u * v ≤ 30000 := qd_uv hu hv
  have m0 : ¬ nI m = 0 := nI_ne0 h0 (by omega)
  have hpm : b ^ u % m < m := Nat.mod_lt _ h0
  have hqm : b ^ v % m < m := Nat.mod_lt _ h0
  have hpq : b ^ u % m * (b ^ v % m) ≤ 900000000 := qd_small hm hpm hqm
  have e1 : nI (b ^ (u + v) % m) = nI (b ^ u % m) * nI (b ^ v % m) - nI (b ^ u % m) * nI (b ^ v % m) / nI m * nI m := by
    rw [pk_mul, pk_rem (by omega) h0 (by omega), qd_add]
  have k1 : ¬ (30000 : Int32) = 0 := by decide
  have k2 : ¬ (30001 : Int32) = 0 := by decide
  have k3 : ¬ (170 : Int32) = 0 := by decide
  have k4 : ¬ (1 : Int32) = 0 := by decide
  unfold wpL_lawOf
  refine And.intro (by omega) (And.intro (by omega) ⟨2, 40, by omega, by omega, qd_init (by omega) (by omega) ?_⟩)
  refine And.intro k1 (nm_r em1 (And.intro k2 (nm_r eb (And.intro k3 (nm_r eu (And.intro k3 (nm_r ev ?_)))))))
  refine qd_take h0 hm (br_f k4 ?_)
  refine qd_power b u h0 hm hb (by omega) rfl rfl ?_
  refine qd_power b v h0 hm hb (by omega) rfl rfl ?_
  refine qd_power b (u + v) h0 hm hb (by omega) rfl (nI_add u v) ?_
  refine And.intro m0 (br_t e1 ?_)
  refine qd_power (b ^ u % m) v h0 hm (by omega) (by omega) rfl rfl ?_
  refine qd_power b (u * v) h0 hm hb huv rfl (pk_mul u v) ?_
  refine br_t (congrArg nI (qd_mul b u v m)) ?_
  exact br_c (fun _ => qd_last (c := 30000) h0 hm hu (by omega) hp) (fun _ => qd_last h0 hm hu hb hp)
theorem qd_cell {post : Int32 → Prop} {L : Nat} {xs : Nat → Int32} {u : St0} {x : Int32} (k : Nat) (hk : k ≤ 4) (hL : L ≤ 4) (hx : x = nI k) (h : ∀ r, post r) : wpL_cellAt post L xs u x := by
  subst hx
  exact pk_le L k (fun _ => h _) (fun z => And.intro (pk_in k L z) (h _))
theorem i_vc (xs : Nat → Int32) (L : Nat) (hL : L ≤ 4) : wpL_law (fun r => r = 1) L xs := by
  unfold wpL_law
  exact qd_cell 0 (by omega) hL rfl (fun r1 => qd_cell 1 (by omega) hL rfl (fun r2 => qd_cell 2 (by omega) hL rfl (fun r3 => qd_cell 3 (by omega) hL rfl (fun r4 => ⟨3, 46, by omega, by omega, qd_lawOf r1 r2 r3 r4 rfl⟩))))
end
