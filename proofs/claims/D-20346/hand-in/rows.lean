section
/-! the plain law: a truncated half, against the even part shifted down by one place -/
theorem cs_back (p x : Int32) : p - (p - x) = x := by grind
theorem cs_int {a t m : Int} (h1 : a < 2 ^ 31) (h2 : -2 ^ 31 ≤ a) (h3 : 2 * t + m = a) (h4 : m < 2) (h5 : -2 < m) (h6 : 0 ≤ a → 0 ≤ m) : (t * 2).bmod (2 ^ 32) >>> (1 : Nat) = t := by
  have hb : (t * 2).bmod (2 ^ 32) = t * 2 := Int.bmod_eq_of_le (by omega) (by omega)
  rw [hb, Int.shiftRight_eq_div_pow]
  omega
theorem cs_half (p : Int32) : (p - (p - p / 2 * 2)) >>> ((1 : Int32) &&& 31) = p / 2 := by
  rw [cs_back]
  apply Int32.toInt_inj.mp
  rw [pk_shr _ _ 1 (by decide), Int32.toInt_mul, Int32.toInt_div_of_ne_right p 2 (by decide), show (2 : Int32).toInt = 2 from by decide]
  exact cs_int (Int32.toInt_lt p) (Int32.le_toInt p) (Int.mul_tdiv_add_tmod p.toInt 2) (Int.tmod_lt_of_pos p.toInt (by decide)) (Int.lt_tmod_of_pos p.toInt (by decide)) (Int.tmod_nonneg (a := p.toInt) 2)
end
section
/-! the class's method, a hypothesis a constant (RED 0, AMBER 1, GREEN 2) -/
theorem cs_x1 {post : Int32 → Prop} {k : Nat} {p : Int32} (hk : k < 3) (h0 : k = 0 → post 0) (h1 : k = 1 → post (p / 2)) (h2 : k = 2 → post (p + 10)) : wpX1_speedAt post () k p := by
  match k, hk with
  | 0, _ => exact ⟨by decide, by decide, br_f (by decide) (br_f (by decide) (br_t (by decide) ⟨by decide, nm_r (by decide) (h0 rfl)⟩))⟩
  | 1, _ => exact ⟨by decide, by decide, br_f (by decide) (br_f (by decide) (br_f (by decide) (br_t (by decide) ⟨by decide, nm_e (h1 rfl)⟩)))⟩
  | 2, _ => exact ⟨by decide, by decide, br_f (by decide) (br_f (by decide) (br_f (by decide) (br_f (by decide) (br_t (by decide) (nm_e (h2 rfl))))))⟩
/-! the twin's method, its answers in the same form -/
theorem cs_x2 {post : Int32 → Prop} {k : Nat} {p : Int32} (hk : k < 3) (h0 : k = 0 → post 0) (h1 : k = 1 → post (p / 2)) (h2 : k = 2 → post (p + 10)) : wpX2_speedAt post () k p := by
  match k, hk with
  | 0, _ => exact ⟨by decide, br_f (by decide) ⟨by decide, br_f (by decide) (h0 rfl)⟩⟩
  | 1, _ => exact ⟨by decide, br_t rfl ⟨by decide, nm_r (cs_half p) ⟨by decide, br_f (by decide) (h1 rfl)⟩⟩⟩
  | 2, _ => exact ⟨by decide, br_f (by decide) ⟨by decide, br_t rfl (nm_e (h2 rfl))⟩⟩
/-! the law's join: both answers are one -/
theorem cs_28 {post : Int32 → Prop} {k : Nat} {p : Int32} (hk : k < 3) (h : post 1) : wL_lawOf_28 post p k :=
  cs_x1 hk
    (fun e => cs_x2 hk (fun _ => br_t rfl h) (fun f => absurd f (by omega)) (fun f => absurd f (by omega)))
    (fun e => cs_x2 hk (fun f => absurd f (by omega)) (fun _ => br_t rfl h) (fun f => absurd f (by omega)))
    (fun e => cs_x2 hk (fun f => absurd f (by omega)) (fun f => absurd f (by omega)) (fun _ => br_t rfl h))
theorem cs_of {post : Int32 → Prop} {a b : Int32} (h : post 1) : wpL_lawOf post () a b :=
  nm_e (br_c (fun _ => cs_28 (by decide) h) (fun _ => br_c (fun _ => cs_28 (by decide) h) (fun _ => cs_28 (by decide) h)))
/-! a cell of the script, whatever it holds -/
theorem cs_cell {post : Int32 → Prop} {L : Nat} {xs : Nat → Int32} {i : Nat} {x : Int32} (hx : x = nI i) (hi : i ≤ 2) (hL : L ≤ 2) (H : ∀ y, post y) : wpL_cellAt post L xs () x := by
  subst hx
  exact pk_le L i (fun _ => H _) (fun h => ⟨pk_in i L h, H _⟩)
theorem i_vc (xs : Nat → Int32) (L : Nat) (hL : L ≤ 2) : wpL_law (fun r => r = 1) L xs :=
  cs_cell (i := 0) rfl (by decide) hL (fun _ => cs_cell (i := 1) rfl (by decide) hL (fun _ => cs_of rfl))
end
