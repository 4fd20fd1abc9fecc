section
/-! plain facts -/
theorem rl_b8 : ∀ v, v < 5 → (nI v).toInt8.toInt32 = nI v := by decide +kernel
theorem rl_nb {v : Nat} (h : v < 5) : vp_nar .byte (nI v) = nI v := by
  rw [vp_nar_byte, rl_b8 v h]
theorem rl_rem {v Q : Nat} (h : v < Q) (hQ : Q ≤ 5) : nI v - nI v / nI Q * nI Q = nI v := by
  rw [pk_rem (by omega) (by omega) (by omega), Nat.mod_eq_of_lt h]
theorem rl_rem0 {Q : Nat} (h : 0 < Q) (hQ : Q ≤ 5) : (0 : Int32) - 0 / nI Q * nI Q = 0 := by
  have e := rl_rem h hQ
  rw [nI_0] at e
  exact e
theorem rl_q0 {Q : Nat} (h2 : 2 ≤ Q) (h5 : Q ≤ 5) : ¬ nI Q = 0 := nI_ne0 (by omega) (by omega)
theorem rl_mul {v : Nat} {x y : Int32} (hx : x = 1) (hy : y = nI v) : (0 : Int32) + x * y = nI v := by
  rw [hx, hy]
  grind
theorem rl_mul0 {x y : Int32} (hx : x = 0) : (0 : Int32) + x * y = 0 := by
  rw [hx]
  grind
section
variable {Q : Nat} {lim sz ws ro co rk rg : Int32} {a1 a2 a3 a4 a5 a6 a7 a8 : Nat → Int32}
/-! the small methods -/
theorem rl_take0 {post : St2 → Prop} {p0 p1 : Int32} (h : p1 ≤ p0) (H : post (nI Q, lim, sz, 0, ro, co, rk, rg, a1, a2, a3, a4, a5, a6, a7, a8)) : wpX_take post (nI Q, lim, sz, ws, ro, co, rk, rg, a1, a2, a3, a4, a5, a6, a7, a8) p0 p1 :=
  ⟨1, br_t h H⟩
theorem rl_take1 {post : St2 → Prop} {v : Nat} (hv : a1 0 = nI v) (h : v < 5) (H : post (nI Q, lim, sz, 1, ro, co, rk, rg, a1, upd a2 0 (nI v), a3, a4, a5, a6, a7, a8)) : wpX_take post (nI Q, lim, sz, ws, ro, co, rk, rg, a1, a2, a3, a4, a5, a6, a7, a8) 0 1 :=
  ⟨2, br_f (by decide) ⟨pk_in 0 12 (by omega), pk_in 0 64 (by omega), nm_r (e' := upd a2 0 (nI v)) (by rw [sb_cl0, hv, rl_nb h]) (nm_r (e' := 1) (by decide) (nm_r (e' := 1) (by decide) (br_t (by decide) H)))⟩⟩
theorem rl_disc {post : Int32 → Prop} {v : Nat} (hQ : v < Q) (h5 : Q ≤ 5) (h3 : a3 0 = 1) (h2 : a2 0 = nI v) (q2 : 2 ≤ Q) (H : post (nI v)) : wpX_discrepancy post (nI Q, lim, sz, ws, ro, co, rk, rg, a1, a2, a3, a4, a5, a6, a7, a8) 0 0 :=
  ⟨2, br_f (by decide) (br_f (by decide) ⟨pk_in 0 32 (by omega), pk_in 0 64 (by omega) (by decide),
    nm_r (e' := nI v) (rl_mul h3 h2) (nm_r (e' := 1) (by decide) (br_t (by decide) ⟨rl_q0 q2 h5, by rw [rl_rem hQ h5]; exact H⟩))⟩)⟩
theorem rl_inverse {post : Int32 → Prop} {p0 : Int32} (q2 : 2 ≤ Q) (q5 : Q ≤ 5) (H : ∀ r, post r) : wpX_inverse post (nI Q, lim, sz, ws, ro, co, rk, rg, a1, a2, a3, a4, a5, a6, a7, a8) p0 :=
  pk_loop (fun n i (s : Int32) => wX_inverse_4 post p0 (nI Q) lim sz ws ro co rk rg a1 a2 a3 a4 a5 a6 a7 a8 n s (nI i)) (fun _ _ => True) Q 2 1 q2 trivial
    (fun n s _ => pk_le Q Q (fun _ => H s) (fun z => absurd z (by omega)))
    (fun n i s hi _ hw => pk_le Q i (fun z => absurd z (by omega)) (fun _ => ⟨rl_q0 q2 q5, br_c (fun _ => nm_r (nI_1 i) (hw _ trivial)) (fun _ => nm_r (nI_1 i) (hw _ trivial))⟩))
theorem rl_mend17 {post : St2 → Prop} {x4 : Int32} (q2 : 2 ≤ Q) (q5 : Q ≤ 5) (H : ∀ b3, post (nI Q, lim, sz, ws, ro, co, rk, rg, a1, a2, b3, a4, a5, a6, a7, a8)) : ∃ n, wX_mend_17 post 1 x4 (nI Q) lim sz ws ro co rk rg n 1 a1 a2 a3 a4 a5 a6 a7 a8 :=
  pk_loop (fun n i (s : Nat → Int32) => wX_mend_17 post 1 x4 (nI Q) lim sz ws ro co rk rg n (nI i) a1 a2 s a4 a5 a6 a7 a8) (fun i _ => 1 ≤ i) 32 1 a3 (by omega) (by omega)
    (fun n s _ => pk_le 32 32 (fun _ => H s) (fun z => absurd z (by omega)))
    (fun n i s hi h1 hw => pk_le 32 i (fun z => absurd z (by omega)) (fun _ => ⟨pk_in i 32 hi, pk_in (i - 1) 32 (by omega) (pk_sub h1), nm_e ⟨rl_q0 q2 q5, pk_in i 32 hi, nm_e (nm_r (nI_1 i) (hw _ (by omega)))⟩⟩))
theorem rl_mend {post : St2 → Prop} {p0 p1 : Int32} (q2 : 2 ≤ Q) (q5 : Q ≤ 5) (H : ∀ b3, post (nI Q, lim, sz, ws, ro, co, rk, rg, a1, a2, b3, a4, a5, a6, a7, a8)) : wpX_mend post (nI Q, lim, sz, ws, ro, co, rk, rg, a1, a2, a3, a4, a5, a6, a7, a8) p0 p1 1 := by
  unfold wpX_mend
  dsimp only
  exact rl_inverse q2 q5 (fun r => ⟨rl_q0 q2 q5, nm_e (rl_mend17 q2 q5 H)⟩)
theorem rl_keep {post : St2 → Prop} (H : ∀ b5, post (nI Q, lim, sz, ws, ro, co, rk, rg, a1, a2, a3, a4, b5, a6, a7, a8)) : wpX_keepCopy post (nI Q, lim, sz, ws, ro, co, rk, rg, a1, a2, a3, a4, a5, a6, a7, a8) :=
  pk_loop (fun n i (s : Nat → Int32) => wX_keepCopy_2 post (nI Q) lim sz ws ro co rk rg n (nI i) a1 a2 a3 a4 s a6 a7 a8) (fun _ _ => True) 32 0 a5 (by omega) trivial
    (fun n s _ => pk_le 32 32 (fun _ => H s) (fun z => absurd z (by omega)))
    (fun n i s hi _ hw => pk_le 32 i (fun z => absurd z (by omega)) (fun _ => ⟨pk_in i 32 hi, pk_in i 32 hi, nm_e (nm_r (nI_1 i) (hw _ trivial))⟩))
theorem rl_use {post : St2 → Prop} (H : ∀ b4, post (nI Q, lim, sz, ws, ro, co, rk, rg, a1, a2, a3, b4, a5, a6, a7, a8)) : wpX_useCopy post (nI Q, lim, sz, ws, ro, co, rk, rg, a1, a2, a3, a4, a5, a6, a7, a8) :=
  pk_loop (fun n i (s : Nat → Int32) => wX_useCopy_2 post (nI Q) lim sz ws ro co rk rg n (nI i) a1 a2 a3 s a5 a6 a7 a8) (fun _ _ => True) 32 0 a4 (by omega) trivial
    (fun n s _ => pk_le 32 32 (fun _ => H s) (fun z => absurd z (by omega)))
    (fun n i s hi _ hw => pk_le 32 i (fun z => absurd z (by omega)) (fun _ => ⟨pk_in i 32 hi, pk_in i 32 hi, nm_e (nm_r (nI_1 i) (hw _ trivial))⟩))
end
end
section
section
variable {Q : Nat} {lim sz ws ro co rk rg : Int32} {a1 a2 a3 a4 a5 a6 a7 a8 : Nat → Int32}
/-! the shortest length; the length of a register of one symbol v -/
def rl_R (v : Nat) : Nat := if v = 0 then 0 else 1
theorem rl_R0 {v : Nat} (h : v = 0) : rl_R v = 0 := if_pos h
theorem rl_R1 {v : Nat} (h : ¬ v = 0) : rl_R v = 1 := if_neg h
theorem rl_sh {post : Int32 → St2 → Prop} (K : ∀ b3 b4 : Nat → Int32, b3 0 = 1 → ∃ n, wX_shortest_51 post n 0 1 1 0 (nI Q) lim sz ws ro co rk rg a1 a2 b3 b4 a5 a6 a7 a8) : wpX_shortest post (nI Q, lim, sz, ws, ro, co, rk, rg, a1, a2, a3, a4, a5, a6, a7, a8) :=
  pk_loop (fun n i (s : (Nat → Int32) × (Nat → Int32)) => wX_shortest_2 post (nI Q) lim sz ws ro co rk rg n (nI i) a1 a2 s.1 s.2 a5 a6 a7 a8) (fun _ _ => True) 32 0 (a3, a4) (by omega) trivial
    (fun n s _ => pk_le 32 32 (fun _ => nm_e (nm_e (K (upd s.1 0 1) (upd s.2 0 1) pk_us))) (fun z => absurd z (by omega)))
    (fun n i s hi _ hw => pk_le 32 i (fun z => absurd z (by omega)) (fun _ => ⟨pk_in i 32 hi, nm_e ⟨pk_in i 32 hi, nm_e (nm_r (nI_1 i) (hw (_, _) trivial))⟩⟩))
theorem rl_short0 {post : Int32 → St2 → Prop} (H : ∀ b3 b4, post 0 (nI Q, lim, sz, 0, ro, co, rk, rg, a1, a2, b3, b4, a5, a6, a7, a8)) : wpX_shortest post (nI Q, lim, sz, 0, ro, co, rk, rg, a1, a2, a3, a4, a5, a6, a7, a8) :=
  rl_sh (fun b3 b4 _ => ⟨1, br_t (by decide) (H b3 b4)⟩)
theorem rl_short1 {post : Int32 → St2 → Prop} {v : Nat} (hv : v < Q) (q2 : 2 ≤ Q) (q5 : Q ≤ 5) (h2 : a2 0 = nI v) (H : ∀ b3 b4 b5, post (nI (rl_R v)) (nI Q, lim, sz, 1, ro, co, rk, rg, a1, a2, b3, b4, b5, a6, a7, a8)) : wpX_shortest post (nI Q, lim, sz, 1, ro, co, rk, rg, a1, a2, a3, a4, a5, a6, a7, a8) := by
  refine rl_sh (fun b3 b4 h3 => ⟨2, br_f (by decide) (rl_disc hv q5 h3 h2 q2 ?_)⟩)
  by_cases e : v = 0
  · rw [rl_R0 e] at H
    exact br_t (by rw [e]; rfl) (nm_e (nm_r (e' := 1) (by decide) (br_t (by decide) (H b3 b4 a5))))
  · rw [rl_R1 e] at H
    exact br_f (nI_ne0 (by omega) (by omega)) (br_f (by decide) (rl_keep (fun b5 => rl_mend q2 q5 (fun c3 => nm_r (e' := 1) (by decide) (rl_use (fun c4 => nm_r (e' := 1) (by decide) (br_t (by decide) (H c3 c4 b5))))))))
/-! the least register: of no symbol, or of the one symbol v -/
theorem rl_el0 {post : St2 → Prop} (H : post (nI Q, lim, sz, ws, ro, 0, 0, rg, a1, a2, a3, a4, a5, a6, a7, a8)) : wpX_eliminate post (nI Q, lim, sz, ws, ro, 0, rk, rg, a1, a2, a3, a4, a5, a6, a7, a8) :=
  nm_r (e' := -1) (by decide) ⟨1, br_t (by decide) H⟩
theorem rl_el1 {post : St2 → Prop} (H : post (nI Q, lim, sz, ws, 0, 1, 0, rg, a1, a2, a3, a4, a5, a6, upd a7 0 (-1), a8)) : wpX_eliminate post (nI Q, lim, sz, ws, 0, 1, rk, rg, a1, a2, a3, a4, a5, a6, a7, a8) :=
  nm_r (e' := 0) (by decide) ⟨2, br_f (by decide) ⟨pk_in 0 14 (by omega), nm_r (e' := upd a7 0 (-1)) (by rw [sb_cl0]) ⟨1, br_t (by decide) (br_t (by decide) (nm_r (e' := -1) (by decide) (br_t (by decide) H)))⟩⟩⟩
theorem rl_fr0 {post : St2 → Prop} (H : ∀ b3 b4, post (nI Q, lim, sz, 0, 0, 0, 0, 0, a1, a2, b3, b4, a5, a6, a7, a8)) : wpX_findRegister post (nI Q, lim, sz, ws, ro, co, rk, rg, a1, a2, a3, a4, a5, a6, a7, a8) 0 := by
  unfold wpX_findRegister
  dsimp only
  refine rl_take0 (by decide) ?_
  dsimp only
  refine rl_short0 (fun b3 b4 => ?_)
  dsimp only
  exact nm_r (e' := 0) (by decide) ⟨1, br_t (by decide) (rl_el0 ⟨1, br_t (by decide) (H b3 b4)⟩)⟩
theorem rl_fr10 {post : St2 → Prop} (q2 : 2 ≤ Q) (q5 : Q ≤ 5) (h1 : a1 0 = nI 0) (H : ∀ b2 b3 b4 b5 b6, post (nI Q, lim, sz, 1, 1, 0, 0, 0, a1, b2, b3, b4, b5, b6, a7, a8)) : wpX_findRegister post (nI Q, lim, sz, ws, ro, co, rk, rg, a1, a2, a3, a4, a5, a6, a7, a8) 1 := by
  unfold wpX_findRegister
  dsimp only
  refine rl_take1 h1 (by omega) ?_
  dsimp only
  refine rl_short1 (v := 0) (by omega) q2 q5 pk_us (fun b3 b4 b5 => ?_)
  rw [rl_R0 rfl]
  dsimp only
  exact nm_r (e' := 1) (by decide) ⟨2, br_f (by decide) ⟨1, br_t (by decide) ⟨pk_in 0 64 (by omega) (by decide), pk_in 0 196 (by omega) (by decide), nm_e (nm_r (e' := 1) (by decide) (br_t (by decide) (rl_el0 ⟨1, br_t (by decide) (H _ b3 b4 b5 _)⟩)))⟩⟩⟩
theorem rl_fr11 {post : St2 → Prop} {v : Nat} (q2 : 2 ≤ Q) (q5 : Q ≤ 5) (h1 : a1 0 = nI v) (hv : v < Q) (h0 : ¬ v = 0) (H : ∀ b2 b3 b4 b5 b7 b8, b8 1 = 0 → post (nI Q, lim, sz, 1, 0, 1, 0, 1, a1, b2, b3, b4, b5, a6, b7, b8)) : wpX_findRegister post (nI Q, lim, sz, ws, ro, co, rk, rg, a1, a2, a3, a4, a5, a6, a7, a8) 1 := by
  unfold wpX_findRegister
  dsimp only
  refine rl_take1 h1 (by omega) ?_
  dsimp only
  refine rl_short1 (v := v) hv q2 q5 pk_us (fun b3 b4 b5 => ?_)
  rw [rl_R1 h0]
  dsimp only
  exact nm_r (e' := 0) (by decide) ⟨1, br_t (by decide) (rl_el1 ⟨2, br_f (by decide) ⟨pk_in 0 14 (by omega), nm_r (e' := -1) (by rw [sb_cl0, pk_us]) (br_f (by decide) ⟨pk_in 1 14 (by omega) (by decide), nm_r (e' := upd a8 1 0) (by rw [show ((0 : Int32) + 1).toNatClampNeg = 1 from by decide]) (nm_r (e' := 1) (by decide) (br_t (by decide) (H _ b3 b4 b5 _ _ pk_us)))⟩)⟩⟩)⟩
/-- what a call of findRegister leaves: n symbols taken, a register of length r, its one coefficient 0 -/
theorem rl_find {post : St2 → Prop} {n v : Nat} (q2 : 2 ≤ Q) (q5 : Q ≤ 5) (hn : n ≤ 1) (h1 : a1 0 = nI v) (hv : v < Q)
    (H : ∀ ro' co' rk' b2 b3 b4 b5 b6 b7 b8 (r : Nat), (n = 0 → r = 0) → (v = 0 → r = 0) → (n = 1 → ¬ v = 0 → r = 1) → (r = 0 ∨ r = 1 ∧ n = 1 ∧ b8 1 = 0) → post (nI Q, lim, sz, nI n, ro', co', rk', nI r, a1, b2, b3, b4, b5, b6, b7, b8)) : wpX_findRegister post (nI Q, lim, sz, ws, ro, co, rk, rg, a1, a2, a3, a4, a5, a6, a7, a8) (nI n) := by
  by_cases e : n = 0
  · subst e
    exact rl_fr0 (fun b3 b4 => H _ _ _ _ _ _ _ _ _ _ 0 (fun _ => rfl) (fun _ => rfl) (fun z => absurd z (by omega)) (Or.inl rfl))
  · have e1 : n = 1 := by omega
    subst e1
    by_cases w : v = 0
    · rw [w] at h1
      exact rl_fr10 q2 q5 h1 (fun b2 b3 b4 b5 b6 => H _ _ _ _ _ _ _ _ _ _ 0 (fun _ => rfl) (fun _ => rfl) (fun _ z => absurd w z) (Or.inl rfl))
    · exact rl_fr11 q2 q5 h1 hv w (fun b2 b3 b4 b5 b7 b8 h8 => H _ _ _ _ _ _ _ _ _ _ 1 (fun z => absurd z (by omega)) (fun z => absurd z w) (fun _ _ => rfl) (Or.inr ⟨rfl, rfl, h8⟩))
end
end
section
section
variable {Q : Nat} {lim sz ws ro co rk rg : Int32} {a1 a2 a3 a4 a5 a6 a7 a8 : Nat → Int32}
/-! one more symbol: always 0 -/
theorem rl_step {post : St2 → Prop} {w r : Nat} (q2 : 2 ≤ Q) (q5 : Q ≤ 5) (hw : w < 64) (hr : r = 0 ∨ r = 1 ∧ 1 ≤ w ∧ a8 1 = 0) (H : post (nI Q, lim, sz, nI (w + 1), ro, co, rk, nI r, a1, upd a2 w 0, a3, a4, a5, a6, a7, a8)) : wpX_step post (nI Q, lim, sz, nI w, ro, co, rk, nI r, a1, a2, a3, a4, a5, a6, a7, a8) := by
  have E : upd a2 (nI w).toNatClampNeg (((0 : Int32) - 0 / nI Q * nI Q).toInt8.toInt32) = upd a2 w 0 := by
    rw [nI_clamp (by omega), rl_rem0 (by omega) q5, show (0 : Int32).toInt8.toInt32 = 0 from by decide]
  rcases hr with e | ⟨e, h, h8⟩
  · subst e
    exact ⟨1, br_t (by decide) ⟨rl_q0 q2 q5, pk_in w 64 hw, nm_r E (nm_r (nI_1 w) H)⟩⟩
  · subst e
    exact ⟨2, br_f (by decide) ⟨pk_in 1 14 (by omega), pk_in (w - 1) 64 (by omega) (pk_sub h), nm_r (e' := 0) (rl_mul0 h8) (nm_r (e' := 2) (by decide) (br_t (by decide) ⟨rl_q0 q2 q5, pk_in w 64 hw, nm_r E (nm_r (nI_1 w) H)⟩))⟩⟩
theorem rl_pr22 {post : Int32 → St2 → Prop} {w r k : Nat} (q2 : 2 ≤ Q) (q5 : Q ≤ 5) (hk : k ≤ 40) (hw : w ≤ 1) (hr : r = 0 ∨ r = 1 ∧ w = 1 ∧ a8 1 = 0) (H : ∀ ws' b2, post 0 (nI Q, lim, sz, ws', ro, co, rk, nI r, a1, b2, a3, a4, a5, a6, a7, a8)) :
    ∃ n, wX_predict_22 post (nI k) n 0 (nI Q) lim sz (nI w) ro co rk (nI r) a1 a2 a3 a4 a5 a6 a7 a8 := by
  refine pk_loop (fun n i (s : Nat → Int32) => wX_predict_22 post (nI k) n (nI i) (nI Q) lim sz (nI (w + i)) ro co rk (nI r) a1 s a3 a4 a5 a6 a7 a8) (fun i s => 0 < i → s (w + i - 1) = 0) (k + 1) 0 a2 (by omega) (fun z => absurd z (by omega)) ?_ ?_
  · intro n s h
    have e : s (nI (w + (k + 1)) - 1).toNatClampNeg = 0 := by
      rw [show nI (w + (k + 1)) - 1 = nI (w + k) from nI_pred (w + k), nI_clamp (by omega)]
      have t := h (by omega)
      rw [show w + (k + 1) - 1 = w + k by omega] at t
      exact t
    refine pk_lt k (k + 1) (fun _ => ⟨pk_in (w + k) 64 (by omega) (nI_pred (w + k)), ?_⟩) (fun z => absurd z (by omega))
    rw [e]
    exact H _ s
  · intro n i s hi h hw'
    refine pk_lt k i (fun z => absurd z (by omega)) (fun _ => ?_)
    refine rl_step q2 q5 (show w + i < 64 by omega) ?_ ?_
    · rcases hr with e | ⟨e, e1, h8⟩
      · exact Or.inl e
      · exact Or.inr ⟨e, by omega, h8⟩
    · refine nm_r (nI_1 i) (hw' (upd s (w + i) 0) (fun _ => ?_))
      rw [show w + (i + 1) - 1 = w + i by omega]
      exact pk_us
/-! the six answers -/
theorem rl_predict {post : Int32 → St2 → Prop} {n v : Nat} {k : Int32} (q2 : 2 ≤ Q) (q5 : Q ≤ 5) (hn : n ≤ 1) (h1 : a1 0 = nI v) (hv : v < Q)
    (H : ∀ p ws' ro' co' rk' rg' b2 b3 b4 b5 b6 b7 b8, (¬ k < 0 → ¬ 40 < k → p = 0) → (k < 0 ∨ 40 < k → p = -1) → post p (nI Q, lim, nI n, ws', ro', co', rk', rg', a1, b2, b3, b4, b5, b6, b7, b8)) : wpX_predict post (nI Q, lim, nI n, ws, ro, co, rk, rg, a1, a2, a3, a4, a5, a6, a7, a8) k := by
  unfold wpX_predict
  dsimp only
  refine br_c (fun z => H (-1) _ _ _ _ _ _ _ _ _ _ _ _ (fun y => absurd z y) (fun _ => rfl)) (fun z => br_c (fun y => ?_) (fun y => H (-1) _ _ _ _ _ _ _ _ _ _ _ _ (fun _ x => absurd (Int32.not_lt.mp x) y) (fun _ => rfl)))
  obtain ⟨j, hj, rfl⟩ := nI_of2 (n := 40) (by decide) z y
  exact rl_find q2 q5 hn h1 hv (fun ro' co' rk' b2 b3 b4 b5 b6 b7 b8 r _ _ _ h8 => rl_pr22 q2 q5 hj hn h8 (fun ws' c2 => H 0 _ _ _ _ _ _ _ _ _ _ _ _ (fun _ _ => rfl) (fun x => absurd x (fun t => t.elim z (Int32.not_lt.mpr y)))))
theorem rl_coef {post : Int32 → St2 → Prop} {n v : Nat} {k : Int32} (q2 : 2 ≤ Q) (q5 : Q ≤ 5) (hn : n ≤ 1) (h1 : a1 0 = nI v) (hv : v < Q)
    (H : ∀ p ws' ro' co' rk' rg' b2 b3 b4 b5 b6 b7 b8, ((n = 1 ∧ ¬ v = 0) → k = 1 → p = 0) → (¬ ((n = 1 ∧ ¬ v = 0) ∧ k = 1) → p = -1) → post p (nI Q, lim, nI n, ws', ro', co', rk', rg', a1, b2, b3, b4, b5, b6, b7, b8)) : wpX_coefficient post (nI Q, lim, nI n, ws, ro, co, rk, rg, a1, a2, a3, a4, a5, a6, a7, a8) k := by
  unfold wpX_coefficient
  dsimp only
  refine rl_find q2 q5 hn h1 hv (fun ro' co' rk' b2 b3 b4 b5 b6 b7 b8 r _ ev e1 h8 => ?_)
  dsimp only
  refine br_c (fun z => H (-1) _ _ _ _ _ _ _ _ _ _ _ _ (fun _ y => ?_) (fun _ => rfl)) (fun z => br_c (fun y => ?_) (fun y => H (-1) _ _ _ _ _ _ _ _ _ _ _ _ (fun x x1 => ?_) (fun _ => rfl)))
  · rw [y] at z
    exact absurd z (by decide)
  · have z0 : ¬ k < 0 := fun t => z (Int32.lt_trans t (by decide))
    have hr : r ≤ 1 := by omega
    obtain ⟨j, hj, rfl⟩ := nI_of2 (n := r) (nI_toInt (by omega)) z0 y
    have j0 : ¬ j = 0 := fun t => z (by rw [t]; decide)
    have j1 : j = 1 := by omega
    subst j1
    have r1 : r = 1 := by omega
    rcases h8 with e | ⟨_, hn1, h8⟩
    · omega
    · have hv0 : ¬ v = 0 := fun t => by have := ev t; omega
      refine ⟨pk_in 1 14 (by omega), ?_⟩
      rw [nI_clamp (by omega), h8]
      exact H 0 _ _ _ _ _ _ _ _ _ _ _ _ (fun _ _ => rfl) (fun t => absurd ⟨⟨hn1, hv0⟩, rfl⟩ t)
  · have r1 := e1 x.1 x.2
    rw [r1, x1] at y
    exact absurd (by decide) y
theorem rl_holds {post : Int32 → St2 → Prop} {n v : Nat} {k : Int32} (q2 : 2 ≤ Q) (q5 : Q ≤ 5) (hn : n ≤ 1) (h1 : a1 0 = nI v) (hv : v < Q)
    (H : ∀ h ws' ro' co' rk' rg' b2 b3 b4 b5 b6 b7 b8, (k < 0 ∨ ¬ k ≤ nI n → h = -1) → (¬ k < 0 → k ≤ nI n → k = 0 → (n = 1 ∧ ¬ v = 0) → h = 0) → (¬ k < 0 → k ≤ nI n → ¬ (k = 0 ∧ (n = 1 ∧ ¬ v = 0)) → h = nI n) → post h (nI Q, lim, nI n, ws', ro', co', rk', rg', a1, b2, b3, b4, b5, b6, b7, b8)) : wpX_holdsUntil post (nI Q, lim, nI n, ws, ro, co, rk, rg, a1, a2, a3, a4, a5, a6, a7, a8) k := by
  unfold wpX_holdsUntil
  dsimp only
  refine br_c (fun z => H (-1) _ _ _ _ _ _ _ _ _ _ _ _ (fun _ => rfl) (fun y => absurd z y) (fun y => absurd z y)) (fun z => br_c (fun y => ?_) (fun y => H (-1) _ _ _ _ _ _ _ _ _ _ _ _ (fun _ => rfl) (fun _ x => absurd x y) (fun _ x => absurd x y)))
  obtain ⟨j, hj, rfl⟩ := nI_of2 (n := n) (nI_toInt (by omega)) z y
  refine rl_find q2 q5 (show j ≤ 1 by omega) h1 hv (fun ro' co' rk' b2 b3 b4 b5 b6 b7 b8 r e0 _ _ _ => ?_)
  dsimp only
  have hm : ¬ (nI j < 0 ∨ ¬ nI j ≤ nI n) := fun t => t.elim z (fun x => x y)
  by_cases e : j = n
  · subst e
    exact ⟨1, br_t (nI_le (by omega) (by omega)) (H (nI j) _ _ _ _ _ _ _ _ _ _ _ _ (fun t => absurd t hm) (fun _ _ t x => absurd t (nI_ne0 (by omega) (by omega))) (fun _ _ _ => rfl))⟩
  · have j0 : j = 0 := by omega
    have n1 : n = 1 := by omega
    subst j0 n1
    have r0 := e0 rfl
    subst r0
    refine ⟨2, br_f (by decide) (rl_step (w := 0) q2 q5 (by omega) (Or.inl rfl) ⟨pk_in 0 64 (by omega), pk_in 0 12 (by omega), br_c (fun t => ?_) (fun t => ?_)⟩)⟩
    · have v0 : v = 0 := by
        have t' : nI 0 = nI v := by
          rw [← h1]
          exact t
        exact ((nI_eq (by omega) (by omega)).mp t').symm
      exact nm_r (e' := 1) (by decide) (br_t (by decide) (H (nI 1) _ _ _ _ _ _ _ _ _ _ _ _ (fun t => absurd t hm) (fun _ _ _ x => absurd v0 x.2) (fun _ _ _ => rfl)))
    · have v0 : ¬ v = 0 := by
        intro x
        rw [x] at h1
        exact t (h1.symm)
      exact H (nI 0) _ _ _ _ _ _ _ _ _ _ _ _ (fun t => absurd t hm) (fun _ _ _ _ => rfl) (fun _ _ x => absurd ⟨rfl, rfl, v0⟩ x)
theorem rl_complexity {post : Int32 → St2 → Prop} {n v : Nat} {a b : Int32} (q2 : 2 ≤ Q) (q5 : Q ≤ 5) (hn : n ≤ 1) (h1 : a1 0 = nI v) (hv : v < Q)
    (H : ∀ c ws' b2 b3 b4 b5, (¬ (¬ a < 0 ∧ ¬ b < a ∧ ¬ nI n < b) → c = -1) → (¬ a < 0 → ¬ b < a → ¬ nI n < b → (n = 1 ∧ ¬ v = 0) → a = 0 → b = 1 → c = 1) → (¬ a < 0 → ¬ b < a → ¬ nI n < b → ¬ ((n = 1 ∧ ¬ v = 0) ∧ a = 0 ∧ b = 1) → c = 0) → post c (nI Q, lim, nI n, ws', ro, co, rk, rg, a1, b2, b3, b4, b5, a6, a7, a8)) : wpX_complexity post (nI Q, lim, nI n, ws, ro, co, rk, rg, a1, a2, a3, a4, a5, a6, a7, a8) a b := by
  unfold wpX_complexity
  dsimp only
  refine br_c (fun z => H (-1) _ _ _ _ _ (fun _ => rfl) (fun y => absurd z y) (fun y => absurd z y)) (fun z => br_c (fun y => H (-1) _ _ _ _ _ (fun _ => rfl) (fun _ _ x => absurd y x) (fun _ _ x => absurd y x)) (fun y => br_c (fun x => ?_) (fun x => H (-1) _ _ _ _ _ (fun _ => rfl) (fun _ w => absurd (Int32.not_lt.mp w) x) (fun _ w => absurd (Int32.not_lt.mp w) x))))
  have hp : ¬ ¬ (¬ a < 0 ∧ ¬ b < a ∧ ¬ nI n < b) := fun t => t ⟨z, Int32.not_lt.mpr x, y⟩
  have zb : ¬ b < 0 := fun t => z (Int32.lt_of_le_of_lt x t)
  obtain ⟨j, hj, rfl⟩ := nI_of2 (n := n) (nI_toInt (by omega)) zb (Int32.not_lt.mp y)
  obtain ⟨i, hi, rfl⟩ := nI_of2 (n := j) (nI_toInt (by omega)) z x
  by_cases e : i = j
  · subst e
    refine rl_take0 x (rl_short0 (fun b3 b4 => H 0 _ _ _ _ _ (fun t => absurd t hp) (fun _ _ _ _ s t => ?_) (fun _ _ _ _ => rfl)))
    rw [s] at t
    exact absurd t (by decide)
  · have i0 : i = 0 := by omega
    have j1 : j = 1 := by omega
    have n1 : n = 1 := by omega
    subst i0 j1 n1
    refine rl_take1 h1 (by omega) ?_
    dsimp only
    refine rl_short1 hv q2 q5 pk_us (fun b3 b4 b5 => H _ _ _ _ _ _ (fun t => absurd t hp) (fun _ _ _ t _ _ => ?_) (fun _ _ _ t => ?_))
    · rw [rl_R1 t.2]
      rfl
    · have v0 : v = 0 := by
        by_cases v0 : v = 0
        · exact v0
        · exact absurd ⟨⟨rfl, v0⟩, rfl, rfl⟩ t
      rw [rl_R0 v0]
      rfl
theorem rl_symbol {post : Int32 → Prop} {n v : Nat} {k : Int32} (hn : n ≤ 1) (h1 : a1 0 = nI v)
    (H : ∀ s, (n = 1 → k = 0 → s = nI v) → (¬ (n = 1 ∧ k = 0) → s = -1) → post s) : wpX_symbol post (nI Q, lim, nI n, ws, ro, co, rk, rg, a1, a2, a3, a4, a5, a6, a7, a8) k := by
  refine br_c (fun z => H (-1) (fun _ y => ?_) (fun _ => rfl)) (fun z => br_c (fun y => ?_) (fun y => H (-1) (fun x x1 => ?_) (fun _ => rfl)))
  · rw [y] at z
    exact absurd z (by decide)
  · rcases pk_ix k (n := n) (by omega) with x | x | ⟨j, hj, rfl⟩
    · exact absurd x z
    · exact absurd y (Int32.not_lt.mpr x)
    · have j0 : j = 0 := by omega
      have n1 : n = 1 := by omega
      subst j0 n1
      exact ⟨pk_in 0 12 (by omega), H _ (fun _ _ => h1) (fun t => absurd ⟨rfl, rfl⟩ t)⟩
  · rw [x, x1] at y
    exact absurd (by decide) y
theorem rl_append {post : Int32 → St2 → Prop} {p0 : Int32} (q2 : 2 ≤ Q) (q5 : Q ≤ 5) (hl : 0 < lim) (h1 : a1 0 = 0)
    (H : ∀ put n v b1, n ≤ 1 → b1 0 = nI v → v < Q → put = nI n → (¬ p0 < 0 → ¬ nI Q ≤ p0 → n = 1 ∧ p0 = nI v) → (¬ (¬ p0 < 0 ∧ ¬ nI Q ≤ p0) → n = 0) → post put (nI Q, lim, nI n, ws, ro, co, rk, rg, b1, a2, a3, a4, a5, a6, a7, a8)) : wpX_append post (nI Q, lim, 0, ws, ro, co, rk, rg, a1, a2, a3, a4, a5, a6, a7, a8) p0 := by
  unfold wpX_append
  dsimp only
  refine br_c (fun z => br_t rfl (H 0 0 0 a1 (by omega) h1 (by omega) rfl (fun y => absurd z y) (fun _ => rfl))) (fun z => br_c (fun y => br_t rfl (H 0 0 0 a1 (by omega) h1 (by omega) rfl (fun _ x => absurd y x) (fun _ => rfl))) (fun y => ?_))
  rcases pk_ix p0 (n := Q) (by omega) with x | x | ⟨v, hv, rfl⟩
  · exact absurd x z
  · exact absurd x y
  · refine br_f (by decide) (br_t hl ⟨pk_in 0 12 (by omega), nm_r (e' := upd a1 0 (nI v)) (by rw [sb_cl0, rl_b8 v (by omega)]) (nm_r (e' := 1) (by decide) (H 1 1 v _ (by omega) pk_us hv rfl (fun _ _ => ⟨rfl, rfl⟩) (fun t => absurd ⟨z, y⟩ t)))⟩)
theorem rl_init {post : St2 → Prop} {p0 : Int32}
    (H : ∀ Q lim, 2 ≤ Q → Q ≤ 5 → (0 : Int32) < lim → (0 < p0 → p0 = 1 → Q = 3) → (0 < p0 → ¬ p0 = 1 → Q = 5) → (¬ 0 < p0 → Q = 2) → post (nI Q, lim, 0, 0, 0, 0, 0, 0, (fun _ => 0), (fun _ => 0), (fun _ => 0), (fun _ => 0), (fun _ => 0), (fun _ => 0), (fun _ => 0), (fun _ => 0))) : wpX_init post 8 396 (0, 0, 0, 0, 0, 0, 0, 0) p0 := by
  unfold wpX_init
  dsimp only
  refine ⟨by omega, by omega, by omega, by omega, by omega, by omega, by omega, by omega, by omega, by omega, by omega, by omega, by omega, by omega, by omega, by omega, ?_⟩
  refine br_c (fun z => br_c (fun y => ?_) (fun y => ?_)) (fun z => ?_)
  · exact H 3 7 (by omega) (by omega) (by decide) (fun _ _ => rfl) (fun _ x => absurd y x) (fun x => absurd z x)
  · exact H 5 5 (by omega) (by omega) (by decide) (fun _ x => absurd x y) (fun _ _ => rfl) (fun x => absurd z x)
  · exact H 2 12 (by omega) (by omega) (by decide) (fun x => absurd x z) (fun x => absurd x z) (fun _ => rfl)
end
end
section
section
variable {post : Int32 → St0 → Prop} {mc ms kc ks n v : Nat} {x1 x2 x3 x4 x6 x7 x8 x9 x10 x11 x13 x14 x15 x16 x17 z0 z1 : Int32}
/-! the law's checks, from the last to the first -/
theorem rl_284 (hp : post 1 ()) (h1 : z1 = z0) (h2 : x11 = x17) : wL_lawOf_284 post mc ms x11 x17 z0 z1 kc ks := br_t h1 (br_t h2 hp)
theorem rl_263 (hp : post 1 ()) (h1 : z1 = z0) (h2 : x11 = x17) (hr0 : ¬ x15 = 0 → x4 = 1 → x10 = 0) (hr1 : ¬ (¬ x15 = 0 ∧ x4 = 1) → x10 = -1) : wL_lawOf_263 post mc ms x4 x10 x11 x15 x17 z0 z1 kc ks :=
  br_t h1 (br_c (fun e => rl_284 hp (hr1 (fun t => t.1 e)) h2) (fun e => br_c (fun f => rl_284 hp (hr0 e f) h2) (fun f => rl_284 hp (hr1 (fun t => f t.2)) h2)))
theorem rl_241 (hp : post 1 ()) (h1 : z1 = z0) (h2 : x11 = x17) (hr0 : ¬ x15 = 0 → x4 = 1 → x10 = 0) (hr1 : ¬ (¬ x15 = 0 ∧ x4 = 1) → x10 = -1)
    (hp0 : ¬ x4 < 0 → ¬ 40 < x4 → x9 = 0) (hp1 : x4 < 0 ∨ 40 < x4 → x9 = -1) : wL_lawOf_241 post mc ms x4 x9 x10 x11 x15 x17 z0 z1 kc ks :=
  br_t h1 (br_c (fun e => rl_263 hp (hp1 (Or.inl e)) h2 hr0 hr1) (fun e => br_c (fun f => rl_263 hp (hp1 (Or.inr f)) h2 hr0 hr1) (fun f => rl_263 hp (hp0 e f) h2 hr0 hr1)))
theorem rl_208 (hp : post 1 ()) (h1 : z1 = z0) (h2 : x11 = x17) (hr0 : ¬ x15 = 0 → x4 = 1 → x10 = 0) (hr1 : ¬ (¬ x15 = 0 ∧ x4 = 1) → x10 = -1)
    (hp0 : ¬ x4 < 0 → ¬ 40 < x4 → x9 = 0) (hp1 : x4 < 0 ∨ 40 < x4 → x9 = -1)
    (hc : x16 = 0 → x8 = -1) (hc1 : ¬ x16 = 0 → ¬ x15 = 0 → x2 = 0 → x3 = 1 → x8 = 1) (hc0 : ¬ x16 = 0 → ¬ (¬ x15 = 0 ∧ x2 = 0 ∧ x3 = 1) → x8 = 0) : wL_lawOf_208 post mc ms x2 x3 x4 x8 x9 x10 x11 x15 x16 x17 z0 z1 kc ks :=
  br_t h1 (br_c (fun e => rl_241 hp (hc e) h2 hr0 hr1 hp0 hp1) (fun e => br_c (fun f => rl_241 hp (hc0 e (fun t => t.1 f)) h2 hr0 hr1 hp0 hp1) (fun f => br_c (fun g => br_c (fun h => rl_241 hp (hc1 e f g h) h2 hr0 hr1 hp0 hp1) (fun h => rl_241 hp (hc0 e (fun t => h t.2.2)) h2 hr0 hr1 hp0 hp1)) (fun g => rl_241 hp (hc0 e (fun t => g t.2.1)) h2 hr0 hr1 hp0 hp1))))
theorem rl_182 (hp : post 1 ()) (h2 : x11 = x17) (hr0 : ¬ x15 = 0 → x4 = 1 → x10 = 0) (hr1 : ¬ (¬ x15 = 0 ∧ x4 = 1) → x10 = -1)
    (hp0 : ¬ x4 < 0 → ¬ 40 < x4 → x9 = 0) (hp1 : x4 < 0 ∨ 40 < x4 → x9 = -1)
    (hc : x16 = 0 → x8 = -1) (hc1 : ¬ x16 = 0 → ¬ x15 = 0 → x2 = 0 → x3 = 1 → x8 = 1) (hc0 : ¬ x16 = 0 → ¬ (¬ x15 = 0 ∧ x2 = 0 ∧ x3 = 1) → x8 = 0)
    (h6 : x6 = x13) (hs1 : ¬ x13 = 0 → x4 = 0 → x7 = x1) (hs0 : ¬ (¬ x13 = 0 ∧ x4 = 0) → x7 = -1) : wL_lawOf_182 post mc ms x1 x2 x3 x4 x6 x7 x8 x9 x10 x11 x13 x15 x16 x17 kc ks :=
  br_t h6 (br_c (fun e => rl_208 hp (hs0 (fun t => t.1 e)) h2 hr0 hr1 hp0 hp1 hc hc1 hc0) (fun e => br_c (fun f => rl_208 hp (hs1 e f) h2 hr0 hr1 hp0 hp1 hc hc1 hc0) (fun f => rl_208 hp (hs0 (fun t => f t.2)) h2 hr0 hr1 hp0 hp1 hc hc1 hc0)))
theorem rl_148 (hp : post 1 ()) (hr0 : ¬ x15 = 0 → x4 = 1 → x10 = 0) (hr1 : ¬ (¬ x15 = 0 ∧ x4 = 1) → x10 = -1)
    (hp0 : ¬ x4 < 0 → ¬ 40 < x4 → x9 = 0) (hp1 : x4 < 0 ∨ 40 < x4 → x9 = -1)
    (hc : x16 = 0 → x8 = -1) (hc1 : ¬ x16 = 0 → ¬ x15 = 0 → x2 = 0 → x3 = 1 → x8 = 1) (hc0 : ¬ x16 = 0 → ¬ (¬ x15 = 0 ∧ x2 = 0 ∧ x3 = 1) → x8 = 0)
    (h6 : x6 = x13) (hs1 : ¬ x13 = 0 → x4 = 0 → x7 = x1) (hs0 : ¬ (¬ x13 = 0 ∧ x4 = 0) → x7 = -1)
    (hh : x4 < 0 ∨ ¬ x4 ≤ x14 → x11 = -1) (hh0 : ¬ x4 < 0 → x4 ≤ x14 → x4 = 0 → ¬ x15 = 0 → x11 = 0) (hh1 : ¬ x4 < 0 → x4 ≤ x14 → ¬ (x4 = 0 ∧ ¬ x15 = 0) → x11 = x14) : wL_lawOf_148 post mc ms x1 x2 x3 x4 x6 x7 x8 x9 x10 x11 x13 x14 x15 x16 kc ks :=
  have K : ∀ x17, x11 = x17 → wL_lawOf_182 post mc ms x1 x2 x3 x4 x6 x7 x8 x9 x10 x11 x13 x15 x16 x17 kc ks := fun _ h2 => rl_182 hp h2 hr0 hr1 hp0 hp1 hc hc1 hc0 h6 hs1 hs0
  br_c (fun e => K _ (hh (Or.inl e))) (fun e => br_c (fun f => br_c (fun g => br_c (fun h => K _ (hh1 e f (fun t => t.2 h))) (fun h => K _ (hh0 e f g h))) (fun g => K _ (hh1 e f (fun t => g t.1)))) (fun f => K _ (hh (Or.inr f))))
theorem rl_126 (hp : post 1 ()) (hr0 : ¬ x15 = 0 → x4 = 1 → x10 = 0) (hr1 : ¬ (¬ x15 = 0 ∧ x4 = 1) → x10 = -1)
    (hp0 : ¬ x4 < 0 → ¬ 40 < x4 → x9 = 0) (hp1 : x4 < 0 ∨ 40 < x4 → x9 = -1)
    (hc : ¬ (¬ x2 < 0 ∧ ¬ x3 < x2 ∧ ¬ x14 < x3) → x8 = -1) (hc1 : ¬ x2 < 0 → ¬ x3 < x2 → ¬ x14 < x3 → ¬ x15 = 0 → x2 = 0 → x3 = 1 → x8 = 1) (hc0 : ¬ x2 < 0 → ¬ x3 < x2 → ¬ x14 < x3 → ¬ (¬ x15 = 0 ∧ x2 = 0 ∧ x3 = 1) → x8 = 0)
    (h6 : x6 = x13) (hs1 : ¬ x13 = 0 → x4 = 0 → x7 = x1) (hs0 : ¬ (¬ x13 = 0 ∧ x4 = 0) → x7 = -1)
    (hh : x4 < 0 ∨ ¬ x4 ≤ x14 → x11 = -1) (hh0 : ¬ x4 < 0 → x4 ≤ x14 → x4 = 0 → ¬ x15 = 0 → x11 = 0) (hh1 : ¬ x4 < 0 → x4 ≤ x14 → ¬ (x4 = 0 ∧ ¬ x15 = 0) → x11 = x14) : wL_lawOf_126 post mc ms x1 x2 x3 x4 x6 x7 x8 x9 x10 x11 x13 x14 x15 kc ks :=
  have K0 : x8 = -1 → wL_lawOf_148 post mc ms x1 x2 x3 x4 x6 x7 x8 x9 x10 x11 x13 x14 x15 0 kc ks := fun h => rl_148 hp hr0 hr1 hp0 hp1 (fun _ => h) (fun t => absurd rfl t) (fun t => absurd rfl t) h6 hs1 hs0 hh hh0 hh1
  br_c (fun e => K0 (hc (fun t => t.1 e))) (fun e => br_c (fun f => K0 (hc (fun t => t.2.1 f))) (fun f => br_c (fun g => K0 (hc (fun t => t.2.2 g))) (fun g =>
    rl_148 hp hr0 hr1 hp0 hp1 (fun t => absurd t (by decide)) (fun _ => hc1 e f g) (fun _ => hc0 e f g) h6 hs1 hs0 hh hh0 hh1)))
theorem rl_110 (hn : n ≤ 1) (hv : v < 5) (hp : post 1 ()) (hr0 : (n = 1 ∧ ¬ v = 0) → x4 = 1 → x10 = 0) (hr1 : ¬ ((n = 1 ∧ ¬ v = 0) ∧ x4 = 1) → x10 = -1)
    (hp0 : ¬ x4 < 0 → ¬ 40 < x4 → x9 = 0) (hp1 : x4 < 0 ∨ 40 < x4 → x9 = -1)
    (hc : ¬ (¬ x2 < 0 ∧ ¬ x3 < x2 ∧ ¬ nI n < x3) → x8 = -1) (hc1 : ¬ x2 < 0 → ¬ x3 < x2 → ¬ nI n < x3 → (n = 1 ∧ ¬ v = 0) → x2 = 0 → x3 = 1 → x8 = 1) (hc0 : ¬ x2 < 0 → ¬ x3 < x2 → ¬ nI n < x3 → ¬ ((n = 1 ∧ ¬ v = 0) ∧ x2 = 0 ∧ x3 = 1) → x8 = 0)
    (h6 : x6 = nI n) (hx : n = 1 → x1 = nI v) (hs1 : n = 1 → x4 = 0 → x7 = nI v) (hs0 : ¬ (n = 1 ∧ x4 = 0) → x7 = -1)
    (hh : x4 < 0 ∨ ¬ x4 ≤ nI n → x11 = -1) (hh0 : ¬ x4 < 0 → x4 ≤ nI n → x4 = 0 → (n = 1 ∧ ¬ v = 0) → x11 = 0) (hh1 : ¬ x4 < 0 → x4 ≤ nI n → ¬ (x4 = 0 ∧ (n = 1 ∧ ¬ v = 0)) → x11 = nI n) : wL_lawOf_110 post mc ms x1 x2 x3 x4 x6 x7 x8 x9 x10 x11 (nI n) (nI n) kc ks := by
  have N1 : ¬ nI n = 0 ↔ n = 1 := by
    constructor
    · intro t
      by_cases e : n = 0
      · rw [e] at t
        exact absurd rfl t
      · omega
    · intro t
      rw [t]
      decide
  have K : ∀ x15, (¬ x15 = 0 ↔ (n = 1 ∧ ¬ v = 0)) → wL_lawOf_126 post mc ms x1 x2 x3 x4 x6 x7 x8 x9 x10 x11 (nI n) (nI n) x15 kc ks := by
    intro x15 E
    refine rl_126 hp ?_ ?_ hp0 hp1 hc ?_ ?_ h6 ?_ ?_ hh ?_ ?_
    · rw [E]
      exact hr0
    · rw [E]
      exact hr1
    · rw [E]
      exact hc1
    · rw [E]
      exact hc0
    · rw [N1]
      exact fun a b => (hs1 a b).trans (hx a).symm
    · rw [N1]
      exact hs0
    · rw [E]
      exact hh0
    · rw [E]
      exact hh1
  refine br_c (fun e => K 0 ?_) (fun e => br_c (fun f => K 0 ?_) (fun f => K 1 ?_))
  · exact ⟨fun t => absurd rfl t, fun t => absurd e (N1.mpr t.1)⟩
  · refine ⟨fun t => absurd rfl t, fun t => absurd ?_ t.2⟩
    have g := (hx t.1).symm.trans f
    rw [← nI_0] at g
    exact (nI_eq (by omega) (by omega)).mp g
  · refine ⟨fun _ => ⟨N1.mp e, fun t => f ?_⟩, fun _ => by decide⟩
    rw [hx (N1.mp e), t]
    rfl
theorem rl_98 (hn : n ≤ 1) (h : wL_lawOf_110 post mc ms x1 x2 x3 x4 x6 x7 x8 x9 x10 x11 (nI n) (nI n) kc ks) : wL_lawOf_98 post mc ms x1 x2 x3 x4 x6 x7 x8 x9 x10 x11 (nI n) kc ks := by
  by_cases e : n = 0
  · subst e
    exact br_t (by decide) h
  · have e1 : n = 1 := by omega
    subst e1
    exact br_f (by decide) h
theorem rl_81 {Q : Nat} (hz : z0 = nI Q) (hg : ¬ x1 < 0 → ¬ nI Q ≤ x1 → n = 1) (hb : ¬ (¬ x1 < 0 ∧ ¬ nI Q ≤ x1) → n = 0) (h : wL_lawOf_98 post mc ms x1 x2 x3 x4 x6 x7 x8 x9 x10 x11 (nI n) kc ks) : wL_lawOf_81 post mc ms x1 x2 x3 x4 x6 x7 x8 x9 x10 x11 z0 kc ks := by
  subst hz
  have B : n = 0 → wL_lawOf_98 post mc ms x1 x2 x3 x4 x6 x7 x8 x9 x10 x11 0 kc ks := by
    intro e
    rw [e] at h
    exact h
  refine br_c (fun z => B (hb (fun t => t.1 z))) (fun z => br_c (fun y => B (hb (fun t => t.2 y))) (fun y => ?_))
  rw [hg z y] at h
  exact h
end
/-! the law -/
theorem rl_cell {post : Int32 → Prop} {L : Nat} {xs : Nat → Int32} {p : Int32} (i : Nat) (hL : L ≤ 5) (hi : i < 5) (hp : p = nI i) (H : ∀ r, post r) : wpL_cellAt post L xs () p :=
  pk_le L i (fun _ => H _) (fun z => ⟨pk_in i L z hp, H _⟩) rfl hp
theorem rl_law {post : Int32 → St0 → Prop} {c v a b k : Int32} (hp : post 1 ()) : wpL_lawOf post 78 1232 () c v a b k := by
  unfold wpL_lawOf
  refine ⟨by omega, by omega, 8, 396, by omega, by omega, rl_init (fun Q lim q2 q5 hl e3 e5 e2 => ?_)⟩
  refine rl_append q2 q5 hl rfl (fun put n w b1 hn hb hw hput hg hbad => ?_)
  dsimp only
  refine rl_symbol hn hb (fun s hs1 hs0 => ?_)
  refine rl_complexity q2 q5 hn hb hw (fun cx _ _ _ _ _ hc hc1 hc0 => ?_)
  dsimp only
  refine rl_predict q2 q5 hn hb hw (fun p _ _ _ _ _ _ _ _ _ _ _ _ hp0 hp1 => ?_)
  dsimp only
  refine rl_coef q2 q5 hn hb hw (fun r _ _ _ _ _ _ _ _ _ _ _ _ hr0 hr1 => ?_)
  dsimp only
  refine rl_holds q2 q5 hn hb hw (fun h _ _ _ _ _ _ _ _ _ _ _ _ hh hh0 hh1 => ?_)
  have hx : n = 1 → v = nI w := by
    intro t
    by_cases g : ¬ v < 0 ∧ ¬ nI Q ≤ v
    · exact (hg g.1 g.2).2
    · have := hbad g
      omega
  have T : ∀ z0, z0 = nI Q → wL_lawOf_81 post 78 1232 v a b k put s cx p r h z0 (1 + 8) (16 + 396) := fun z0 hz => rl_81 hz (fun x y => (hg x y).1) hbad (rl_98 hn (rl_110 hn (by omega) hp hr0 hr1 hp0 hp1 hc hc1 hc0 hput hx hs1 hs0 hh hh0 hh1))
  refine br_c (fun z => br_c (fun y => T _ ?_) (fun y => T _ ?_)) (fun z => T _ ?_)
  · rw [e3 z y]
    rfl
  · rw [e5 z y]
    rfl
  · rw [e2 z]
    rfl
theorem i_vc (xs : Nat → Int32) (L : Nat) (hL : L ≤ 5) : wpL_law (fun r => r = 1) L xs := by
  unfold wpL_law
  exact rl_cell 0 hL (by omega) rfl (fun c => rl_cell 1 hL (by omega) rfl (fun v => rl_cell 2 hL (by omega) rfl (fun a => rl_cell 3 hL (by omega) rfl (fun b => rl_cell 4 hL (by omega) rfl (fun k => ⟨78, 1232, by omega, by omega, rl_law rfl⟩)))))
end
