section
/-- the inverse modulo 7 -/
def mq_inv (a : Nat) : Nat := a ^ 5 % 7
/-- the equation's cells: factor a at unknown u, right side b -/
def mq_c (u a b j : Nat) : Nat := if j = u then a else if j = 4 then b else 0
/-- seven to the number of free unknowns from p on, unknown u alone determined -/
def mq_w (u p : Nat) : Nat := 7 ^ (4 - p - (if p ≤ u then 1 else 0))
theorem mq_cu (u a b : Nat) : mq_c u a b u = a := if_pos rfl
theorem mq_c4 {u : Nat} (a b : Nat) (h : u < 4) : mq_c u a b 4 = b := by
  unfold mq_c
  rw [if_neg (by omega), if_pos rfl]
theorem mq_c0 {u j : Nat} (a b : Nat) (h : j ≠ u) (h4 : j ≠ 4) : mq_c u a b j = 0 := by
  unfold mq_c
  rw [if_neg h, if_neg h4]
theorem mq_cle {u a b : Nat} (j : Nat) (ha : a < 7) (hb : b < 7) : mq_c u a b j < 7 := by
  unfold mq_c
  split
  · exact ha
  · split
    · exact hb
    · omega
theorem mq_inv_ok : ∀ a, a < 7 → 1 ≤ a → 1 ≤ mq_inv a ∧ mq_inv a < 7 ∧ a * mq_inv a % 7 = 1 ∧ ∀ i, i < 7 → i < mq_inv a → ¬ a * i % 7 = 1 := by decide +kernel
theorem mq_v_ok : ∀ a, a < 7 → 1 ≤ a → ∀ b, b < 7 → ∀ k, k < 7 → (a * k % 7 = b ↔ b * mq_inv a % 7 = k) := by decide +kernel
theorem mq_w_s : ∀ u, u < 4 → ∀ i, i < 4 → mq_w u i = (if i = u then 1 else 7) * mq_w u (i + 1) := by decide +kernel
theorem mq_w_4 : ∀ u, u < 4 → mq_w u 4 = 1 := by decide +kernel
theorem mq_w_0 : ∀ u, u < 4 → mq_w u 0 = 343 := by decide +kernel
theorem mq_w_in : ∀ u, u < 4 → ∀ i, i < 5 → 0 < mq_w u i ∧ mq_w u i ≤ 343 := by decide +kernel
theorem mq_cm {u a b : Nat} (j : Nat) (ha : a < 7) (ha1 : 1 ≤ a) : mq_c u a b j * mq_inv a % 7 = mq_c u 1 (b * mq_inv a % 7) j := by
  unfold mq_c
  split
  · exact (mq_inv_ok a ha ha1).2.2.1
  · split
    · rfl
    · rw [Nat.zero_mul]
theorem mq_p7 : ∀ i, i < 5 → 0 < 7 ^ i ∧ 7 ^ i ≤ 2401 := by decide +kernel
/-- one more digit: above the digit that is looked at, or itself that one -/
theorem mq_dig {u i d x : Nat} (hu : u < 4) (hi : i < 4) (hd : d < 7 ^ i) (hx : x < 7) : d + x * 7 ^ i < 7 ^ (i + 1) ∧ (u < i → (d + x * 7 ^ i) / 7 ^ u % 7 = d / 7 ^ u % 7) ∧ (i = u → (d + x * 7 ^ i) / 7 ^ u % 7 = x) := by
  have h4 : i = 0 ∨ i = 1 ∨ i = 2 ∨ i = 3 := by omega
  have g4 : u = 0 ∨ u = 1 ∨ u = 2 ∨ u = 3 := by omega
  rcases h4 with e | e | e | e <;> rcases g4 with g | g | g | g <;> subst e <;> subst g <;> simp only [Nat.reducePow, Nat.reduceAdd] at hd ⊢ <;> refine ⟨by omega, fun z => by omega, fun z => by omega⟩
theorem mq_ix (k i : Nat) : nI k * 5 + nI i = nI (k * 5 + i) := by
  show nI k * nI 5 + nI i = nI (k * 5 + i)
  rw [pk_mul, nI_add]
theorem mq_ixc {k i : Nat} (h : k * 5 + i < 2 ^ 31) : (nI k * 5 + nI i).toNatClampNeg = k * 5 + i := by
  rw [mq_ix, nI_clamp h]
theorem mq_rem {x : Nat} (h : x < 2 ^ 31) : nI x - nI x / 7 * 7 = nI (x % 7) := pk_rem (d := 7) h (by omega) (by omega)
theorem mq_mrem {x y : Nat} (h : x * y < 2 ^ 31) : nI x * nI y - nI x * nI y / 7 * 7 = nI (x * y % 7) := by
  rw [pk_mul]
  exact mq_rem h
theorem mq_div {x : Nat} (h : x < 2 ^ 31) : nI x / 7 = nI (x / 7) := pk_div (d := 7) h (by omega) (by omega)
theorem mq_7 : ¬ (7 : Int32) = 0 := by decide
theorem mq_m1 : ¬ (0 : Int32) ≤ -1 := by decide
/-- an array filled place by place, from place o on -/
theorem mq_fill {f s : Nat → Int32} {o i k : Nat} {x : Int32} (hk : k = o + i) (h : ∀ j, j < i → s (o + j) = f j) (hx : x = f i) : ∀ j, j < i + 1 → upd s k x (o + j) = f j := by
  intro j hj
  rw [hk]
  by_cases e : j = i
  · rw [e, pk_us, hx]
  · rw [pk_un (by omega)]
    exact h j (by omega)
theorem mq_fill0 {f s : Nat → Int32} {i k : Nat} {x : Int32} (hk : k = i) (h : ∀ j, j < i → s j = f j) (hx : x = f i) : ∀ j, j < i + 1 → upd s k x j = f j := by
  intro j hj
  rw [hk]
  by_cases e : j = i
  · rw [e, pk_us, hx]
  · rw [pk_un e]
    exact h j (by omega)
end
section
theorem mq_mod {post : Int32 → Prop} {x : Nat} (hx : x < 7) (H : post (nI x)) : wpX_mod post () (nI x) :=
  ⟨mq_7, nm_r ((mq_rem (by omega)).trans (congrArg nI (Nat.mod_eq_of_lt hx))) (br_t (nI_pos' (by omega)) H)⟩
theorem mq_add {post : Int32 → St2 → Prop} {c : Int32} {a1 a2 a3 a4 a5 : Nat → Int32} (H : ∀ a, (∀ j, j < 5 → a j = 0) → ∀ r, post r (nI 1, c, a, upd a2 0 1, a3, a4, a5)) : wpX_add post (0, c, a1, a2, a3, a4, a5) 0 :=
  br_t (by decide) (nm_r (e' := (0 : Int32)) (by decide)
    (pk_loop (fun n i s => wX_add_19 post 0 c n 0 (nI i) s a2 a3 a4 a5) (fun i s => ∀ j, j < i → s j = 0) 5 0 a1 (by omega) (fun j hj => absurd hj (by omega))
      (fun n s h => pk_le 5 5 (fun _ => ⟨pk_in 0 6 (by omega), nm_r (e' := upd a2 0 1) (by rw [sb_cl0]) (nm_r (nI_1 0) (H s h _))⟩) (fun z => absurd z (by omega)))
      (fun n i s hi h hw => pk_le 5 i (fun z => absurd z (by omega)) (fun _ => ⟨mq_7, pk_in (0 * 5 + i) 30 (by omega) (mq_ix 0 i), nm_r (e' := upd s i 0) (by rw [show ((0 : Int32) * 5 + nI i).toNatClampNeg = 0 * 5 + i from mq_ixc (k := 0) (by omega), Nat.zero_mul, Nat.zero_add]; rfl) ⟨mq_7, nm_r (e' := (0 : Int32)) (by decide) (nm_r (nI_1 i) (hw _ (mq_fill0 (f := fun _ => 0) rfl h rfl)))⟩⟩))))
theorem mq_set {post : Int32 → St2 → Prop} {c : Int32} {a1 a2 a3 a4 a5 : Nat → Int32} {p q : Nat} (hp : p ≤ 4) (hq : q < 7) (H : ∀ r, post r (nI 1, c, upd a1 p (nI q), a2, a3, a4, a5)) : wpX_set post (nI 1, c, a1, a2, a3, a4, a5) 0 (nI p) (nI q) :=
  br_f (by decide) (br_t (by decide) (br_t (by rfl) (br_f (nI_pos (by omega)) (br_t (nI_le (b := 4) hp (by omega)) ⟨pk_in (0 * 5 + p) 30 (by omega) (mq_ix 0 p), nm_e (mq_mod hq ⟨pk_in (0 * 5 + p) 30 (by omega) (mq_ix 0 p), nm_r (e' := upd a1 p (nI q)) (by rw [show ((0 : Int32) * 5 + nI p).toNatClampNeg = 0 * 5 + p from mq_ixc (k := 0) (by omega), Nat.zero_mul, Nat.zero_add]) (H _)⟩)⟩))))
theorem mq_onSet {post : Int32 → Prop} {c : Int32} {a1 a2 a3 a4 a5 : Nat → Int32} (h : a2 0 = 1) (H : post 1) : wpX_onSet post (nI 1, c, a1, a2, a3, a4, a5) :=
  ⟨2, br_f (by decide) ⟨pk_in 0 6 (by omega), br_f (by rw [sb_cl0, h]; decide) (nm_r (e' := (1 : Int32)) (by decide) (nm_r (e' := (1 : Int32)) (by decide) (br_t (by decide) H)))⟩⟩
theorem mq_load {post : St2 → Prop} {e c : Int32} {a1 a2 a3 a4 a5 : Nat → Int32} (H : ∀ a, (∀ j, j < 5 → a j = a1 j) → post (e, c, a1, a2, a3, a4, a)) : wpX_load post (e, c, a1, a2, a3, a4, a5) 0 :=
  pk_loop (fun n i s => wX_load_2 post 0 e c n (nI i) a1 a2 a3 a4 s) (fun i s => ∀ j, j < i → s j = a1 j) 5 0 a5 (by omega) (fun j hj => absurd hj (by omega))
    (fun n s h => pk_le 5 5 (fun _ => H s h) (fun z => absurd z (by omega)))
    (fun n i s hi h hw => pk_le 5 i (fun z => absurd z (by omega)) (fun _ => ⟨pk_in (0 * 5 + i) 30 (by omega) (mq_ix 0 i), pk_in i 5 hi, nm_r (e' := upd s i (a1 i)) (by rw [show ((0 : Int32) * 5 + nI i).toNatClampNeg = 0 * 5 + i from mq_ixc (k := 0) (by omega), Nat.zero_mul, Nat.zero_add, nI_clamp (by omega)]) (nm_r (nI_1 i) (hw _ (mq_fill0 rfl h rfl)))⟩))
theorem mq_reduce {post : Int32 → St2 → Prop} {e c : Int32} {a1 a2 a3 a4 a5 : Nat → Int32} {u a b : Nat} (hu : u < 4) (ha1 : 1 ≤ a) (ha : a < 7) (h3 : ∀ j, j < 4 → a3 j = 0) (h5 : ∀ j, j < 5 → a5 j = nI (mq_c u a b j)) (H : post (nI u) (e, c, a1, a2, a3, a4, a5)) : wpX_reduce post (e, c, a1, a2, a3, a4, a5) := by
  refine ⟨5, ?_⟩
  refine pk_loopD (fun n i s => wX_reduce_4 post e c n s (nI i + (-1)) a1 a2 a3 a4 a5) (fun i s => i ≤ 4 ∧ s = if u < i then -1 else nI u) ?_ ?_ 4 (-1) ⟨by omega, by rw [if_pos hu]⟩
  · intro n s h
    have e0 : s = nI u := by rw [h.2, if_neg (by omega)]
    rw [e0]
    exact br_t (by decide) H
  · intro n i s h hw
    have hi : i < 4 := by omega
    have es := h.2
    show wX_reduce_4 post e c (n + 1) s (nI (i + 1) + (-1)) a1 a2 a3 a4 a5
    rw [pk_m1]
    have J : wX_reduce_77 post (wX_reduce_4 post e c n) s (nI i) (nI (mq_c u a b i)) e c a1 a2 a3 a4 a5 := by
      by_cases g : i = u
      · rw [g, mq_cu]
        rw [g, if_pos (by omega)] at es
        rw [es]
        refine br_f (nI_ne0 (by omega) (by omega)) (br_f mq_m1 (nm_e ?_))
        have t := hw (nI u) ⟨by omega, by rw [g, if_neg (by omega)]⟩
        rw [g] at t
        exact t
      · rw [mq_c0 a b g (by omega)]
        refine br_t rfl (nm_e (hw s ⟨by omega, ?_⟩))
        rw [es]
        by_cases k : u < i
        · rw [if_pos k, if_pos (by omega)]
        · rw [if_neg k, if_neg (by omega)]
    exact br_f (nI_pos (by omega)) ⟨pk_in i 5 (by omega), nm_r ((congrArg a5 (nI_clamp (by omega))).trans (h5 i (by omega))) (br_c (fun _ => J) (fun _ => ⟨pk_in i 4 hi, br_t ((congrArg a3 (nI_clamp (by omega))).trans (h3 i hi)) J⟩))⟩
theorem mq_inverse {post : Int32 → Prop} {a : Nat} (ha1 : 1 ≤ a) (ha : a < 7) (H : post (nI (mq_inv a))) : wpX_inverse post () (nI a) := by
  obtain ⟨k1, k2, k3, k4⟩ := mq_inv_ok a ha ha1
  have B : ∀ i, i < 7 → a * i < 2 ^ 31 := fun i hi => Nat.lt_of_le_of_lt (Nat.mul_le_mul (Nat.le_of_lt ha) (Nat.le_of_lt hi)) (by omega)
  exact pk_loop (σ := Unit) (fun n i _ => wX_inverse_2 post (nI a) n (nI i)) (fun _ _ => True) (mq_inv a) 1 () k1 trivial
    (fun n _ _ => pk_le 7 (mq_inv a) (fun z => absurd z (by omega)) (fun _ => ⟨mq_7, br_t (by rw [mq_mrem (B _ k2), k3]; rfl) H⟩))
    (fun n i _ hi _ hw => pk_le 7 i (fun z => absurd z (by omega)) (fun _ => ⟨mq_7, br_f (by rw [mq_mrem (B i (by omega))]; intro z; exact k4 i (by omega) hi ((nI_eq (b := 1) (by omega) (by omega)).mp z)) (nm_r (nI_1 i) (hw () trivial))⟩))
theorem mq_keep {post : St2 → Prop} {e c : Int32} {a1 a2 a3 a4 a5 : Nat → Int32} {u a b : Nat} (hu : u < 4) (ha1 : 1 ≤ a) (ha : a < 7) (hb : b < 7) (h3 : ∀ j, j < 4 → a3 j = 0) (h5 : ∀ j, j < 5 → a5 j = nI (mq_c u a b j))
    (H : ∀ a', (∀ j, j < 5 → a' (u * 5 + j) = nI (mq_c u 1 (b * mq_inv a % 7) j)) → post (e, c, a1, a2, upd a3 u 1, a', a5)) : wpX_keep post (e, c, a1, a2, a3, a4, a5) (nI u) := by
  refine ⟨pk_in u 5 (by omega), ?_⟩
  rw [nI_clamp (show u < 2 ^ 31 by omega), h5 u (by omega), mq_cu]
  refine mq_inverse ha1 ha ⟨pk_in u 4 hu, nm_e ?_⟩
  obtain ⟨k1, k2, k3, k4⟩ := mq_inv_ok a ha ha1
  refine pk_loop (fun n i s => wX_keep_19 post (nI u) (nI (mq_inv a)) e c n (nI i) a1 a2 (upd a3 u 1) s a5) (fun i s => ∀ j, j < i → s (u * 5 + j) = nI (mq_c u 1 (b * mq_inv a % 7) j)) 5 0 a4 (by omega) (fun j hj => absurd hj (by omega)) ?_ ?_
  · intro n s h
    refine pk_le 5 5 (fun _ => nm_r (nI_1 u) ?_) (fun z => absurd z (by omega))
    refine pk_loop (σ := Unit) (fun n i _ => wX_keep_55 post (nI u) e c n (nI i) a1 a2 (upd a3 u 1) s a5) (fun i _ => u < i) 4 (u + 1) () (by omega) (by omega)
      (fun n _ _ => pk_le 4 4 (fun _ => H s h) (fun z => absurd z (by omega)))
      (fun n i _ hi hl hw => pk_le 4 i (fun z => absurd z (by omega)) (fun _ => ⟨pk_in (i * 5 + u) 20 (by omega) (mq_ix i u), nm_e ⟨1, br_f (by decide) ⟨pk_in i 4 hi, br_t ?_ (nm_r (nI_1 i) (hw () (by omega)))⟩⟩⟩))
    rw [nI_clamp (by omega), pk_un (by omega)]
    exact h3 i hi
  · intro n i s hi h hw
    have hc : mq_c u a b i < 7 := mq_cle i ha hb
    have B : mq_c u a b i * mq_inv a < 2 ^ 31 := Nat.lt_of_le_of_lt (Nat.mul_le_mul (Nat.le_of_lt hc) (Nat.le_of_lt k2)) (by omega)
    refine pk_le 5 i (fun z => absurd z (by omega)) (fun _ => ⟨pk_in i 5 hi, mq_7, pk_in (u * 5 + i) 20 (by omega) (mq_ix u i), nm_r (e' := upd s (u * 5 + i) (nI (mq_c u 1 (b * mq_inv a % 7) i))) ?_ (nm_r (nI_1 i) (hw _ (mq_fill (f := fun j => nI (mq_c u 1 (b * mq_inv a % 7) j)) rfl h rfl)))⟩)
    rw [mq_ixc (by omega), nI_clamp (by omega), h5 i hi, mq_mrem B, mq_cm i ha ha1]
end
section
/-- what the script's calls have laid: one equation, on -/
def mq_eq (u a b : Nat) (a1 a2 : Nat → Int32) : Prop := u < 4 ∧ 1 ≤ a ∧ a < 7 ∧ b < 7 ∧ (∀ j, j < 5 → a1 j = nI (mq_c u a b j)) ∧ a2 0 = 1
/-- what solve lays: unknown u determined, its row says that it is v -/
def mq_sol (u v : Nat) (a3 a4 : Nat → Int32) : Prop := u < 4 ∧ v < 7 ∧ (∀ j, j < 4 → a3 j = nI (if j = u then 1 else 0)) ∧ (∀ j, j < 5 → a4 (u * 5 + j) = nI (mq_c u 1 v j))
theorem mq_solveSet {post : St2 → Prop} {c : Int32} {a1 a2 a3 a4 a5 : Nat → Int32} {u a b : Nat} (hE : mq_eq u a b a1 a2)
    (H : ∀ a3' a4' a5', mq_sol u (b * mq_inv a % 7) a3' a4' → post (nI 1, 0, a1, a2, a3', a4', a5')) : wpX_solveSet post (nI 1, c, a1, a2, a3, a4, a5) 1 := by
  obtain ⟨hu, ha1, ha, hb, h1, h2⟩ := hE
  refine pk_loop (fun n i s => wX_solveSet_7 post 1 (nI 1) 0 n (nI i) a1 a2 s a4 a5) (fun i s => ∀ j, j < i → s j = 0) 4 0 a3 (by omega) (fun j hj => absurd hj (by omega)) ?_ ?_
  · intro n s h
    refine pk_le 4 4 (fun _ => ⟨2, br_f (by decide) (br_t (by decide) ?_)⟩) (fun z => absurd z (by omega))
    refine mq_load (fun w hw => ?_)
    have h5 : ∀ j, j < 5 → w j = nI (mq_c u a b j) := fun j hj => (hw j hj).trans (h1 j hj)
    refine mq_reduce hu ha1 ha h h5 ?_
    refine br_f (nI_pos (by omega)) ?_
    refine mq_keep hu ha1 ha hb h h5 (fun a' h4 => ?_)
    refine nm_r (e' := (1 : Int32)) (by decide) (br_t (by decide) (H _ _ _ ⟨hu, Nat.mod_lt _ (by omega), fun j hj => ?_, h4⟩))
    by_cases g : j = u
    · rw [g, pk_us, if_pos rfl]
      rfl
    · rw [pk_un g, if_neg g, h j hj]
      rfl
  · intro n i s hi h hw
    exact pk_le 4 i (fun z => absurd z (by omega)) (fun _ => ⟨pk_in i 4 hi, nm_r (e' := upd s i 0) (by rw [nI_clamp (by omega)]) (nm_r (nI_1 i) (hw _ (mq_fill0 (f := fun _ => 0) rfl h rfl)))⟩)
theorem mq_solve {post : St2 → Prop} {c : Int32} {a1 a2 a3 a4 a5 : Nat → Int32} {u a b : Nat} (hE : mq_eq u a b a1 a2)
    (H : ∀ a3' a4' a5', mq_sol u (b * mq_inv a % 7) a3' a4' → post (nI 1, 0, a1, a2, a3', a4', a5')) : wpX_solve post (nI 1, c, a1, a2, a3, a4, a5) :=
  mq_onSet hE.2.2.2.2.2 (mq_solveSet hE (fun a3' a4' a5' h => H a3' a4' a5' h))
theorem mq_ways {post : Int32 → Prop} {e c : Int32} {a1 a2 a3 a4 a5 : Nat → Int32} {u v : Nat} (p : Nat) (hp : p ≤ 4) (hS : mq_sol u v a3 a4) (H : post (nI (mq_w u p))) : wpX_waysFrom post (e, c, a1, a2, a3, a4, a5) (nI p) := by
  obtain ⟨hu, hv, h3, h4⟩ := hS
  refine pk_loop (fun n i s => wX_waysFrom_4 post e c a1 a2 a3 a4 a5 n s (nI i)) (fun i s => ∃ k, s = nI k ∧ k * mq_w u i = mq_w u p) 4 p 1 hp ⟨1, rfl, Nat.one_mul _⟩ ?_ ?_
  · intro n s h
    obtain ⟨k, es, ek⟩ := h
    rw [mq_w_4 u hu, Nat.mul_one] at ek
    refine pk_le 4 4 (fun _ => ?_) (fun z => absurd z (by omega))
    rw [es, ek]
    exact H
  · intro n i s hi h hw
    obtain ⟨k, es, ek⟩ := h
    rw [mq_w_s u hu i hi] at ek
    have e3 : a3 (nI i).toNatClampNeg = nI (if i = u then 1 else 0) := (congrArg a3 (nI_clamp (by omega))).trans (h3 i hi)
    refine pk_le 4 i (fun z => absurd z (by omega)) (fun _ => ⟨pk_in i 4 hi, ?_⟩)
    by_cases g : i = u
    · rw [if_pos g, Nat.one_mul] at ek
      refine br_f ?_ (nm_r (nI_1 i) (hw s ⟨k, es, ek⟩))
      rw [e3, if_pos g]
      decide
    · rw [if_neg g] at ek
      refine br_t ?_ (nm_r (e' := nI (k * 7)) ?_ (nm_r (nI_1 i) (hw _ ⟨k * 7, rfl, by rw [Nat.mul_assoc]; exact ek⟩)))
      · rw [e3, if_neg g]
        rfl
      · rw [es]
        exact pk_mul k 7
theorem mq_solutions {post : Int32 → St2 → Prop} {c : Int32} {a1 a2 a3 a4 a5 : Nat → Int32} {u a b : Nat} (hE : mq_eq u a b a1 a2)
    (H : ∀ a3' a4' a5', post 343 (nI 1, 0, a1, a2, a3', a4', a5')) : wpX_solutions post (nI 1, c, a1, a2, a3, a4, a5) := by
  unfold wpX_solutions
  refine mq_solve hE (fun a3' a4' a5' h => br_t rfl (mq_ways 0 (by omega) h ?_))
  rw [mq_w_0 u hE.1]
  exact H a3' a4' a5'
theorem mq_varies {post : Int32 → Prop} {e c : Int32} {a1 a2 a3 a4 a5 : Nat → Int32} {u v : Nat} (hS : mq_sol u v a3 a4) (H : post 0) : wpX_varies post (e, c, a1, a2, a3, a4, a5) (nI u) := by
  obtain ⟨hu, hv, h3, h4⟩ := hS
  have e3 : a3 (nI u).toNatClampNeg = nI (if u = u then 1 else 0) := (congrArg a3 (nI_clamp (by omega))).trans (h3 u hu)
  refine ⟨pk_in u 4 hu, br_f (by rw [e3, if_pos rfl]; decide) ?_⟩
  refine pk_loop (σ := Unit) (fun n i _ => wX_varies_13 post (nI u) e c a1 a2 a3 a4 a5 n (nI i)) (fun _ _ => True) u 0 () (by omega) trivial
    (fun n _ _ => pk_le u u (fun _ => H) (fun z => absurd z (by omega)))
    (fun n i _ hi _ hw => pk_le u i (fun z => absurd z (by omega)) (fun _ => ⟨pk_in (u * 5 + i) 20 (by omega) (mq_ix u i), br_t ?_ (nm_r (nI_1 i) (hw () trivial))⟩))
  rw [mq_ixc (by omega), h4 i (by omega), mq_c0 1 v (by omega) (by omega)]
  rfl
theorem mq_variesN {post : Int32 → Prop} {e c : Int32} {a1 a2 a3 a4 a5 : Nat → Int32} {u v p : Nat} (hS : mq_sol u v a3 a4) (hp : p < 4) (hn : p ≠ u) (H : post 1) : wpX_varies post (e, c, a1, a2, a3, a4, a5) (nI p) := by
  obtain ⟨hu, hv, h3, h4⟩ := hS
  have e3 : a3 (nI p).toNatClampNeg = nI (if p = u then 1 else 0) := (congrArg a3 (nI_clamp (by omega))).trans (h3 p hp)
  exact ⟨pk_in p 4 hp, br_t (by rw [e3, if_neg hn]; rfl) H⟩
theorem mq_possible {post : Int32 → St2 → Prop} {c : Int32} {a1 a2 a3 a4 a5 : Nat → Int32} {u a b : Nat} (hE : mq_eq u a b a1 a2)
    (H : ∀ a3' a4' a5', post ((1 : Int32) <<< (nI (b * mq_inv a % 7) &&& 31)) (nI 1, 0, a1, a2, a3', a4', a5')) : wpX_possible post (nI 1, c, a1, a2, a3, a4, a5) (nI u) := by
  have hu := hE.1
  refine br_f (nI_pos (by omega)) (br_t (nI_lt (b := 4) hu (by omega)) ?_)
  refine mq_solve hE (fun a3' a4' a5' h => br_t rfl (mq_varies h (br_t rfl ⟨pk_in (u * 5 + 4) 20 (by omega) (mq_ix u 4), ?_⟩)))
  rw [show (nI u * 5 + 4).toNatClampNeg = u * 5 + 4 from mq_ixc (i := 4) (by omega), h.2.2.2 4 (by omega), mq_c4 _ _ hu]
  exact H a3' a4' a5'
theorem mq_fixed {post : Int32 → St2 → Prop} {c : Int32} {a1 a2 a3 a4 a5 : Nat → Int32} {u a b : Nat} (hE : mq_eq u a b a1 a2)
    (H : ∀ a3' a4' a5', post 1 (nI 1, 0, a1, a2, a3', a4', a5')) : wpX_fixed post (nI 1, c, a1, a2, a3, a4, a5) (nI u) :=
  br_f (nI_pos (Nat.lt_trans hE.1 (by omega))) (br_t (nI_lt (b := 4) hE.1 (by omega)) (mq_solve hE (fun a3' a4' a5' h => br_t rfl (mq_varies h (br_t rfl (H a3' a4' a5'))))))
theorem mq_fixedN {post : Int32 → St2 → Prop} {c : Int32} {a1 a2 a3 a4 a5 : Nat → Int32} {u a b p : Nat} (hE : mq_eq u a b a1 a2) (hp : p < 4) (hn : p ≠ u)
    (H : ∀ a3' a4' a5', post 0 (nI 1, 0, a1, a2, a3', a4', a5')) : wpX_fixed post (nI 1, c, a1, a2, a3, a4, a5) (nI p) :=
  br_f (nI_pos (Nat.lt_trans hp (by omega))) (br_t (nI_lt (b := 4) hp (by omega)) (mq_solve hE (fun a3' a4' a5' h => br_t rfl (mq_variesN h hp hn (br_f (by decide) (H a3' a4' a5'))))))
theorem mq_needed {post : Int32 → St2 → Prop} {c : Int32} {a1 a2 a3 a4 a5 : Nat → Int32} {u a b : Nat} (hE : mq_eq u a b a1 a2)
    (H : ∀ a3' a4' a5', post 1 (nI 1, 0, a1, a2, a3', a4', a5')) : wpX_needed post (nI 1, c, a1, a2, a3, a4, a5) := by
  unfold wpX_needed
  refine mq_solve hE (fun a3' a4' a5' hS => br_t rfl ?_)
  obtain ⟨hu, hv, h3, h4⟩ := hS
  refine pk_loop (fun n i s => wX_needed_15 post (nI 1) 0 a1 a2 a3' a4' a5' n s (nI i)) (fun i s => s = nI (if u < i then 1 else 0)) 4 0 0 (by omega) (by rw [if_neg (by omega)]; rfl) ?_ ?_
  · intro n s h
    rw [if_pos hu] at h
    refine pk_le 4 4 (fun _ => ?_) (fun z => absurd z (by omega))
    rw [h]
    exact H a3' a4' a5'
  · intro n i s hi h hw
    have e3 : a3' (nI i).toNatClampNeg = nI (if i = u then 1 else 0) := (congrArg a3' (nI_clamp (by omega))).trans (h3 i hi)
    refine pk_le 4 i (fun z => absurd z (by omega)) (fun _ => ⟨pk_in i 4 hi, ?_⟩)
    by_cases g : i = u
    · rw [if_neg (by omega)] at h
      refine br_f (by rw [e3, if_pos g]; decide) (nm_r (e' := nI 1) (by rw [h]; rfl) (nm_r (nI_1 i) (hw _ (by rw [if_pos (by omega)]))))
    · refine br_t (by rw [e3, if_neg g]; rfl) (nm_r (nI_1 i) (hw _ ?_))
      rw [h]
      by_cases k : u < i
      · rw [if_pos k, if_pos (by omega)]
      · rw [if_neg k, if_neg (by omega)]
end
section
theorem mq_result {post : Int32 → Prop} {e c : Int32} {a1 a2 a3 a4 a5 : Nat → Int32} {u v : Nat} (x : Int32) (hS : mq_sol u v a3 a4) (H : post (nI v)) : wpX_resultOf post (e, c, a1, a2, a3, a4, a5) (nI u) x := by
  obtain ⟨hu, hv, h3, h4⟩ := hS
  refine ⟨pk_in (u * 5 + 4) 20 (by omega) (mq_ix u 4), nm_r (e' := nI v) ?_ ?_⟩
  · rw [show (nI u * 5 + 4).toNatClampNeg = u * 5 + 4 from mq_ixc (i := 4) (by omega), h4 4 (by omega), mq_c4 _ _ hu]
  · refine pk_loop (fun n i s => wX_resultOf_17 post (nI u) e c a1 a2 a3 a4 a5 n (nI v) s (nI i)) (fun _ _ => True) u 0 x (by omega) trivial
      (fun n s _ => pk_le u u (fun _ => mq_mod hv H) (fun z => absurd z (by omega)))
      (fun n i s hi _ hw => pk_le u i (fun z => absurd z (by omega)) (fun _ => ⟨pk_in (u * 5 + i) 20 (by omega) (mq_ix u i), mq_7, nm_r (e' := nI v) ?_ ⟨mq_7, nm_e (nm_r (nI_1 i) (hw _ trivial))⟩⟩))
    rw [mq_ixc (by omega), h4 i (by omega), mq_c0 1 v (by omega) (by omega), nI_0, Int32.zero_mul, Int32.sub_zero]
theorem mq_solAt {post : Int32 → Prop} {e c : Int32} {a1 a2 a3 a4 a5 : Nat → Int32} {u v n : Nat} (hS : mq_sol u v a3 a4) (hn : n < 343) (H : ∀ d, d < 2401 → d / 7 ^ u % 7 = v → post (nI d)) : wpX_solutionAt post (e, c, a1, a2, a3, a4, a5) (nI n) := by
  have hS' := hS
  obtain ⟨hu, hv, h3, h4⟩ := hS
  refine pk_loop (fun n i (s : Nat × Nat) => wX_solutionAt_10 post e c a1 a2 a3 a4 a5 n (nI s.1) (nI s.2) (nI (7 ^ i)) (nI i)) (fun i s => s.1 < mq_w u i ∧ s.2 < 7 ^ i ∧ (u < i → s.2 / 7 ^ u % 7 = v)) 4 0 (n, 0) (by omega) ⟨by rw [mq_w_0 u hu]; exact hn, (show 0 < 7 ^ 0 by decide), fun z => absurd z (by omega)⟩ ?_ ?_
  · intro m s h
    exact pk_le 4 4 (fun _ => H s.2 h.2.1 (h.2.2 hu)) (fun z => absurd z (by omega))
  · intro m i s hi h hw
    obtain ⟨l, d⟩ := s
    obtain ⟨g1, g2, g3⟩ := h
    replace g1 : l < mq_w u i := g1
    replace g2 : d < 7 ^ i := g2
    replace g3 : u < i → d / 7 ^ u % 7 = v := g3
    obtain ⟨p1, p2⟩ := mq_p7 i (by omega)
    obtain ⟨w1, w2⟩ := mq_w_in u hu i (by omega)
    obtain ⟨w3, w4⟩ := mq_w_in u hu (i + 1) (by omega)
    have ws := mq_w_s u hu i hi
    have e3 : a3 (nI i).toNatClampNeg = nI (if i = u then 1 else 0) := (congrArg a3 (nI_clamp (by omega))).trans (h3 i hi)
    have J : ∀ (l' x : Nat), l' < mq_w u (i + 1) → x < 7 → (i = u → x = v) → wX_solutionAt_67 post (wX_solutionAt_10 post e c a1 a2 a3 a4 a5 m) (nI l') (nI d) (nI (7 ^ i)) (nI i) (nI x) e c a1 a2 a3 a4 a5 := by
      intro l' x hl hx hxv
      obtain ⟨q1, q2, q3⟩ := mq_dig hu hi g2 hx
      refine nm_r (e' := nI (d + x * 7 ^ i)) (by rw [pk_mul, nI_add]) (nm_r (e' := nI (7 ^ (i + 1))) (pk_mul (7 ^ i) 7) (nm_r (nI_1 i) (hw (l', d + x * 7 ^ i) ⟨hl, q1, fun z => ?_⟩)))
      by_cases g : i = u
      · exact (q3 g).trans (hxv g)
      · exact (q2 (by omega)).trans (g3 (by omega))
    refine pk_le 4 i (fun z => absurd z (by omega)) (fun _ => ⟨pk_in i 4 hi, ?_⟩)
    by_cases g : i = u
    · rw [if_pos g, Nat.one_mul] at ws
      refine br_f (by rw [e3, if_pos g]; decide) ?_
      have R : wpX_resultOf (fun r => wX_solutionAt_67 post (wX_solutionAt_10 post e c a1 a2 a3 a4 a5 m) (nI l) (nI d) (nI (7 ^ i)) (nI i) r e c a1 a2 a3 a4 a5) (e, c, a1, a2, a3, a4, a5) (nI u) (nI d) :=
        mq_result (nI d) hS' (J l v (by omega) hv (fun _ => rfl))
      rw [← g] at R
      exact R
    · rw [if_neg g] at ws
      refine br_t (by rw [e3, if_neg g]; rfl) ?_
      have R : wpX_waysFrom (fun r => (r ≤ 0 → wX_solutionAt_67 post (wX_solutionAt_10 post e c a1 a2 a3 a4 a5 m) (nI l) (nI d) (nI (7 ^ i)) (nI i) 0 e c a1 a2 a3 a4 a5) ∧ (¬ r ≤ 0 → (¬ r = 0 ∧ (∀ x6 : Int32, x6 = nI l / r → (¬ r = 0 ∧ (∀ x2 : Int32, x2 = nI l - nI l / r * r → wX_solutionAt_67 post (wX_solutionAt_10 post e c a1 a2 a3 a4 a5 m) x2 (nI d) (nI (7 ^ i)) (nI i) x6 e c a1 a2 a3 a4 a5)))))) (e, c, a1, a2, a3, a4, a5) (nI (i + 1)) := by
        have n0 : ¬ nI (mq_w u (i + 1)) = 0 := nI_ne0 w3 (by omega)
        refine mq_ways (i + 1) (by omega) hS' (br_f (nI_nle w3 (by omega)) ⟨n0, nm_r (pk_div (by omega) w3 (by omega)) ⟨n0, nm_r (pk_rem (by omega) w3 (by omega)) (J _ _ (Nat.mod_lt _ w3) ?_ (fun z => absurd z g))⟩⟩)
        exact Nat.div_lt_of_lt_mul (by rw [Nat.mul_comm, ← ws]; exact g1)
      rw [← nI_1] at R
      exact R
theorem mq_value {post : Int32 → St2 → Prop} {c : Int32} {a1 a2 a3 a4 a5 : Nat → Int32} {u a b : Nat} (n : Int32) (hE : mq_eq u a b a1 a2)
    (H0 : (n < 0 ∨ 343 ≤ n) → ∀ a3' a4' a5', post (-4) (nI 1, 0, a1, a2, a3', a4', a5'))
    (H1 : ¬ n < 0 → ¬ 343 ≤ n → ∀ a3' a4' a5', post (nI (b * mq_inv a % 7)) (nI 1, 0, a1, a2, a3', a4', a5')) : wpX_value post (nI 1, c, a1, a2, a3, a4, a5) n (nI u) := by
  have hu := hE.1
  refine br_f (nI_pos (by omega)) (br_t (nI_lt (b := 4) hu (by omega)) ?_)
  refine mq_solve hE (fun a3' a4' a5' h => br_t rfl (br_c (fun z => H0 (Or.inl z) a3' a4' a5') (fun z => ?_)))
  refine mq_ways 0 (by omega) h ?_
  rw [mq_w_0 u hu]
  obtain ⟨k, hk, rfl⟩ := nI_of z
  refine pk_lt k 343 (fun y => ?_) (fun y => H0 (Or.inr (nI_le (a := 343) y hk)) a3' a4' a5')
  refine mq_solAt h y (fun d hd hv => ?_)
  have P : ∀ i, i < 4 → d / 7 ^ i < 2 ^ 31 := fun i _ => Nat.lt_of_le_of_lt (Nat.div_le_self d (7 ^ i)) (by omega)
  refine pk_loop (fun n i (s : Nat) => wX_value_48 post (nI u) (nI 1) 0 a1 a2 a3' a4' a5' n (nI s) (nI i)) (fun i s => s = d / 7 ^ i) u 0 d (by omega) (by rw [Nat.pow_zero, Nat.div_one]) ?_ ?_
  · intro m s es
    rw [es]
    refine pk_le u u (fun _ => ⟨mq_7, ?_⟩) (fun z => absurd z (by omega))
    rw [mq_rem (P u hu), hv]
    exact H1 z (nI_ge (b := 343) y (by omega)) a3' a4' a5'
  · intro m i s hi es hw
    rw [es]
    refine pk_le u i (fun z => absurd z (by omega)) (fun _ => ⟨mq_7, nm_r (mq_div (P i (by omega))) (nm_r (nI_1 i) (hw _ ?_))⟩)
    rw [Nat.div_div_eq_div_mul, Nat.pow_succ]
end
section
theorem mq_276 {post : Int32 → St0 → Prop} {mc ms kc ks : Nat} {z0 z1 c : Int32} {a1 a2 a3 a4 a5 : Nat → Int32} {u a b : Nat} (hE : mq_eq u a b a1 a2) (hz : z1 = z0) (H : post 1 ()) : wL_lawOf_276 post mc ms z0 z1 kc ks (nI 1) c a1 a2 a3 a4 a5 :=
  br_t hz (mq_needed hE (fun _ _ _ => br_t rfl H))
theorem mq_254o {post : Int32 → St0 → Prop} {mc ms kc ks : Nat} {n x8 c : Int32} {a1 a2 a3 a4 a5 : Nat → Int32} {u a b : Nat} (hE : mq_eq u a b a1 a2) (hn : n < 0 ∨ 343 ≤ n) (H : post 1 ()) : wL_lawOf_253 post mc ms n (nI u) x8 kc ks (nI 1) c a1 a2 a3 a4 a5 := by
  unfold wL_lawOf_253 wL_lawOf_254
  exact mq_value n hE (fun _ _ _ _ => br_t rfl (mq_276 hE rfl H)) (fun h1 h2 => absurd hn (fun z => z.elim h1 h2))
theorem mq_254i {post : Int32 → St0 → Prop} {mc ms kc ks : Nat} {n c : Int32} {a1 a2 a3 a4 a5 : Nat → Int32} {u a b : Nat} (hE : mq_eq u a b a1 a2) (h1 : ¬ n < 0) (h2 : ¬ 343 ≤ n) (H : post 1 ()) : wL_lawOf_254 post mc ms n (nI u) (nI (b * mq_inv a % 7)) 1 kc ks (nI 1) c a1 a2 a3 a4 a5 :=
  mq_value n hE (fun hn => absurd hn (fun z => z.elim h1 h2)) (fun _ _ _ _ _ => br_f (by decide) (mq_276 hE rfl H))
theorem mq_nx : ∀ u, u < 4 → (nI u + 1) &&& 3 = nI ((u + 1) % 4) ∧ (u + 1) % 4 < 4 ∧ (u + 1) % 4 ≠ u := by decide +kernel
theorem mq_185 {post : Int32 → St0 → Prop} {mc ms kc ks : Nat} {n z c : Int32} {a1 a2 a3 a4 a5 : Nat → Int32} {u a b : Nat} (hE : mq_eq u a b a1 a2) (hz : z = nI (b * mq_inv a % 7)) (H : post 1 ()) : wL_lawOf_185 post mc ms n (nI u) z kc ks (nI 1) c a1 a2 a3 a4 a5 := by
  obtain ⟨q1, q2, q3⟩ := mq_nx u hE.1
  rw [hz]
  refine mq_solutions hE (fun _ _ _ => br_t rfl ?_)
  refine mq_possible hE (fun _ _ _ => br_t rfl ?_)
  refine mq_fixed hE (fun _ _ _ => br_f (by decide) ?_)
  rw [q1]
  refine mq_fixedN hE q2 q3 (fun _ _ _ => br_t rfl ?_)
  exact br_c (fun h => mq_254o hE (Or.inl h) H) (fun h => br_c (fun g => mq_254o hE (Or.inr g) H) (fun g => mq_254i hE h g H))
/-- one row 'v = (a * k) % 7 == b ? k : v' of the law -/
theorem mq_row {W : Int32 → Prop} {z : Int32} {a b : Nat} (k : Nat) (ha1 : 1 ≤ a) (ha : a < 7) (hb : b < 7) (hk : k < 7) (hz : b * mq_inv a % 7 < k → z = nI (b * mq_inv a % 7)) (H : ∀ y, (b * mq_inv a % 7 < k + 1 → y = nI (b * mq_inv a % 7)) → W y) :
    ¬ (7 : Int32) = 0 ∧ ((nI a * nI k - nI a * nI k / 7 * 7 = nI b → W (nI k)) ∧ (¬ nI a * nI k - nI a * nI k / 7 * 7 = nI b → W z)) := by
  have e := mq_v_ok a ha ha1 b hb k hk
  have B : a * k < 2 ^ 31 := Nat.lt_of_le_of_lt (Nat.mul_le_mul (Nat.le_of_lt ha) (Nat.le_of_lt hk)) (by omega)
  refine ⟨mq_7, ?_⟩
  rw [mq_mrem B]
  refine pk_eq (a * k % 7) b (fun g => H _ (fun _ => ?_)) (fun g => H _ (fun g2 => hz ?_)) rfl rfl (by omega) (by omega)
  · rw [e.mp g]
  · have g3 : b * mq_inv a % 7 ≠ k := fun w => g (e.mpr w)
    omega
theorem mq_83 {post : Int32 → St0 → Prop} {mc ms kc ks : Nat} {n z c : Int32} {a1 a2 a3 a4 a5 : Nat → Int32} {u a b : Nat} (hE : mq_eq u a b a1 a2) (hz : b * mq_inv a % 7 < 2 → z = nI (b * mq_inv a % 7)) (H : post 1 ()) : wL_lawOf_83 post mc ms n (nI u) (nI a) (nI b) z kc ks (nI 1) c a1 a2 a3 a4 a5 := by
  have hE' := hE
  obtain ⟨hu, ha1, ha, hb, _, _⟩ := hE'
  refine mq_row (W := fun y => wL_lawOf_103 post mc ms n (nI u) (nI a) (nI b) y kc ks (nI 1) c a1 a2 a3 a4 a5) 2 ha1 ha hb (by omega) hz (fun y2 h2 => ?_)
  refine mq_row (W := fun y => wL_lawOf_123 post mc ms n (nI u) (nI a) (nI b) y kc ks (nI 1) c a1 a2 a3 a4 a5) 3 ha1 ha hb (by omega) h2 (fun y3 h3 => ?_)
  refine mq_row (W := fun y => wL_lawOf_143 post mc ms n (nI u) (nI a) (nI b) y kc ks (nI 1) c a1 a2 a3 a4 a5) 4 ha1 ha hb (by omega) h3 (fun y4 h4 => ?_)
  refine mq_row (W := fun y => wL_lawOf_163 post mc ms n (nI u) (nI a) (nI b) y kc ks (nI 1) c a1 a2 a3 a4 a5) 5 ha1 ha hb (by omega) h4 (fun y5 h5 => ?_)
  refine mq_row (W := fun y => wL_lawOf_185 post mc ms n (nI u) y kc ks (nI 1) c a1 a2 a3 a4 a5) 6 ha1 ha hb (by omega) h5 (fun y6 h6 => ?_)
  exact mq_185 hE (h6 (Nat.mod_lt _ (by omega))) H
theorem mq_cells {a1 : Nat → Int32} {u a b : Nat} (hu : u < 4) (h : ∀ j, j < 5 → a1 j = 0) : ∀ j, j < 5 → upd (upd a1 u (nI a)) 4 (nI b) j = nI (mq_c u a b j) := by
  intro j hj
  by_cases g : j = 4
  · rw [g, pk_us, mq_c4 a b hu]
  · rw [pk_un g]
    by_cases k : j = u
    · rw [k, pk_us, mq_cu]
    · rw [pk_un k, mq_c0 a b k g, h j hj]
      rfl
theorem mq_lawOf {post : Int32 → St0 → Prop} (p0 p1 p2 p3 : Int32) (H : post 1 ()) : wpL_lawOf post 46 720 () p0 p1 p2 p3 := by
  obtain ⟨u, hu, eu⟩ := pk_andE p0 (m := 3) 2 (by decide)
  obtain ⟨f, hf, ef⟩ := pk_andE p1 (m := 2147483647) 31 (by decide)
  obtain ⟨g, hg, eg⟩ := pk_andE p2 (m := 2147483647) 31 (by decide)
  have hu4 : u < 4 := hu
  have e6 : (1 : Int32) + ((p1 &&& 2147483647) - (p1 &&& 2147483647) / 6 * 6) = nI (1 + f % 6) := by
    rw [ef, show nI f - nI f / 6 * 6 = nI (f % 6) from pk_rem (d := 6) hf (by omega) (by omega)]
    exact nI_add 1 (f % 6)
  have e7 : (p2 &&& 2147483647) - (p2 &&& 2147483647) / 7 * 7 = nI (g % 7) := by
    rw [eg]
    exact mq_rem hg
  have k1 : 1 ≤ 1 + f % 6 := by omega
  have k2 : 1 + f % 6 < 7 := by omega
  have k3 : g % 7 < 7 := by omega
  refine ⟨by omega, by omega, 45, 713, by omega, by omega, by omega, by omega, by omega, by omega, by omega, by omega, by omega, by omega, by omega, by omega, ?_⟩
  refine nm_r eu ⟨by decide, nm_r e6 ⟨mq_7, nm_r e7 ?_⟩⟩
  refine mq_add (fun w hw _ => ?_)
  refine mq_set (by omega) k2 (fun _ => ?_)
  refine mq_set (p := 4) (by omega) k3 (fun _ => ?_)
  have hE : mq_eq u (1 + f % 6) (g % 7) (upd (upd w u (nI (1 + f % 6))) 4 (nI (g % 7))) (upd (fun _ => 0) 0 1) := ⟨hu4, k1, k2, k3, mq_cells hu4 hw, rfl⟩
  refine mq_row (W := fun y => wL_lawOf_83 post 46 720 p3 (nI u) (nI (1 + f % 6)) (nI (g % 7)) y (1 + 45) (7 + 713) (nI 1) 0 (upd (upd w u (nI (1 + f % 6))) 4 (nI (g % 7))) (upd (fun _ => 0) 0 1) (fun _ => 0) (fun _ => 0) (fun _ => 0)) 1 k1 k2 k3 (by omega) ?_ (fun y h => mq_83 hE h H)
  intro z
  rw [show g % 7 * mq_inv (1 + f % 6) % 7 = 0 by omega]
  rfl
theorem mq_cell {post : Int32 → Prop} {L : Nat} {xs : Nat → Int32} (p : Nat) (hp : p < 4) (hL : L ≤ 4) (H : ∀ r, post r) : wpL_cellAt post L xs () (nI p) :=
  pk_le L p (fun _ => H _) (fun h => ⟨pk_in p L h, H _⟩)
theorem i_vc (xs : Nat → Int32) (L : Nat) (hL : L ≤ 4) : wpL_law (fun r => r = 1) L xs :=
  mq_cell 0 (by omega) hL (fun _ => mq_cell 1 (by omega) hL (fun _ => mq_cell 2 (by omega) hL (fun _ => mq_cell 3 (by omega) hL (fun _ => ⟨46, 720, by omega, by omega, mq_lawOf _ _ _ _ rfl⟩))))
end
