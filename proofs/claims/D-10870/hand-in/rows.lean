section
/-- a store at place i fills the picture f one place further -/
theorem ms_fill {f s : Nat → Int32} {i k : Nat} {x : Int32} (hk : k = i) (h : ∀ j, j < i → s j = f j) (hx : x = f i) : ∀ j, j < i + 1 → upd s k x j = f j := by
  intro j hj
  rw [hk]
  by_cases e : j = i
  · rw [e, pk_us, hx]
  · rw [pk_un e]
    exact h j (by omega)
/-- what the component's mod and the law's own remainder answer -/
def ms_mod (x : Int32) : Int32 := if 0 ≤ x - x / 7 * 7 then x - x / 7 * 7 else (x - x / 7 * 7) + 7
theorem ms_mod_t {x : Int32} (h : 0 ≤ x - x / 7 * 7) : ms_mod x = x - x / 7 * 7 := if_pos h
theorem ms_mod_f {x : Int32} (h : ¬ 0 ≤ x - x / 7 * 7) : ms_mod x = (x - x / 7 * 7) + 7 := if_neg h
theorem ms_wmod {post : Int32 → Prop} {x : Int32} (H : post (ms_mod x)) : wpX_mod post () x :=
  ⟨by decide, nm_e (br_c (fun h => ms_mod_t h ▸ H) (fun h => ms_mod_f h ▸ H))⟩
/-- the place of equation 0: 0 * 5 + k is k -/
theorem ms_ix (k : Nat) : ((0 : Int32) * 5) + nI k = nI k := by
  show nI 0 * nI 5 + nI k = nI k
  rw [pk_mul, nI_add]
  congr 1
  omega
/-- noEquation while there is none -/
theorem ms_ne0 {post : Int32 → Prop} {c p0 : Int32} {a1 a2 a3 a4 a5 : Nat → Int32} (H : post 1) : wpX_noEquation post (0, c, a1, a2, a3, a4, a5) p0 :=
  br_c (fun _ => H) (fun h => br_f h H)
/-- an int that is neither negative nor 1 or more is 0 -/
theorem ms_zero {p : Int32} (h0 : ¬ p < 0) (h1 : p < 1) : p = 0 := by
  obtain ⟨j, hj, rfl⟩ := nI_of h0
  have h2 : nI j < nI 1 := h1
  have h3 : j < 1 := (nI_ltI hj (by decide)).mp h2
  have h4 : j = 0 := by omega
  rw [h4, nI_0]
/-- noEquation while there is one -/
theorem ms_ne1 {post : Int32 → Prop} {c p0 : Int32} {a1 a2 a3 a4 a5 : Nat → Int32} (H0 : p0 = 0 → post 0) (H1 : ¬ p0 = 0 → post 1) : wpX_noEquation post (1, c, a1, a2, a3, a4, a5) p0 :=
  br_c (fun h => H1 (fun e => absurd (e ▸ h : (0 : Int32) < 0) (by decide)))
    (fun h => br_c (fun g => H0 (ms_zero h g)) (fun g => H1 (fun e => g (e ▸ (by decide : (0 : Int32) < 1)))))
/-- set while there is no equation -/
theorem ms_set0 {post : Int32 → St2 → Prop} {c p0 p1 p2 : Int32} {a1 a2 a3 a4 a5 : Nat → Int32} (H : post (-1) (0, c, a1, a2, a3, a4, a5)) : wpX_set post (0, c, a1, a2, a3, a4, a5) p0 p1 p2 := by
  unfold wpX_set
  exact ms_ne0 (br_f (by decide) H)
/-- set while there is one equation: another equation, a place out of range, a place in range -/
theorem ms_set1 {post : Int32 → St2 → Prop} {c p0 p1 p2 : Int32} {a1 a2 a3 a4 a5 : Nat → Int32}
    (Hb : ¬ p0 = 0 → post (-1) (1, c, a1, a2, a3, a4, a5))
    (Hu : p0 = 0 → (p1 < 0 ∨ ¬ p1 ≤ 4) → post (-2) (1, c, a1, a2, a3, a4, a5))
    (Hk : p0 = 0 → ∀ k : Nat, k < 5 → p1 = nI k → post (a1 k) (1, c, upd a1 k (ms_mod p2), a2, a3, a4, a5)) :
    wpX_set post (1, c, a1, a2, a3, a4, a5) p0 p1 p2 := by
  unfold wpX_set
  refine ms_ne1 (fun e => br_t rfl ?_) (fun e => br_f (by decide) (Hb e))
  refine br_c (fun h => Hu e (Or.inl h)) (fun h => br_c (fun g => ?_) (fun g => Hu e (Or.inr g)))
  obtain ⟨k, hk, ek⟩ := nI_of2 (M := 4) (n := 4) (by decide) h g
  have H := Hk e k (by omega) ek
  subst e
  subst ek
  have hx : ((0 : Int32) * 5) + nI k = nI k := ms_ix k
  have hc : (((0 : Int32) * 5) + nI k).toNatClampNeg = k := pk_cl k hx
  exact ⟨pk_in k 30 (by omega) hx, nm_r (by rw [hc]) (ms_wmod ⟨pk_in k 30 (by omega) hx, nm_r (by rw [hc]) H⟩)⟩
/-- onSet while there is no equation -/
theorem ms_onSet {post : Int32 → Prop} {c : Int32} {a1 a2 a3 a4 a5 : Nat → Int32} (H : post 0) : wpX_onSet post (0, c, a1, a2, a3, a4, a5) :=
  ⟨0 + 1, br_t (by decide) H⟩
/-- solveSet while there is no equation: nothing is determined, no contradiction -/
theorem ms_solveSet {post : St2 → Prop} {c p0 : Int32} {a1 a2 a3 a4 a5 : Nat → Int32} (H : ∀ a : Nat → Int32, (∀ j, j < 4 → a j = 0) → post (0, 0, a1, a2, a, a4, a5)) : wpX_solveSet post (0, c, a1, a2, a3, a4, a5) p0 :=
  pk_loop (fun n i s => wX_solveSet_7 post p0 0 0 n (nI i) a1 a2 s a4 a5) (fun i s => ∀ j, j < i → s j = 0) 4 0 a3 (by omega) (fun j hj => absurd hj (by omega))
    (fun n s h => pk_le 4 4 (fun _ => ⟨0 + 1, br_t (by decide) (H s h)⟩) (fun z => absurd z (by omega)))
    (fun n i s hi h hw => pk_le 4 i (fun z => absurd z (by omega)) (fun _ => ⟨pk_in i 4 hi, nm_e (nm_r (nI_1 i) (hw _ (ms_fill (f := fun _ => 0) (nI_clamp (by omega)) h rfl)))⟩))
theorem ms_solve {post : St2 → Prop} {c : Int32} {a1 a2 a3 a4 a5 : Nat → Int32} (H : ∀ a : Nat → Int32, (∀ j, j < 4 → a j = 0) → post (0, 0, a1, a2, a, a4, a5)) : wpX_solve post (0, c, a1, a2, a3, a4, a5) := by
  unfold wpX_solve
  exact ms_onSet (ms_solveSet H)
/-- waysFrom 0 while nothing is determined: 7 ^ 4 -/
theorem ms_ways {post : Int32 → Prop} {e c : Int32} {a1 a2 a3 a4 a5 : Nat → Int32} (h : ∀ j, j < 4 → a3 j = 0) (H : post 2401) : wpX_waysFrom post (e, c, a1, a2, a3, a4, a5) 0 :=
  pk_loop (σ := Unit) (fun n i _ => wX_waysFrom_4 post e c a1 a2 a3 a4 a5 n (nI (7 ^ i)) (nI i)) (fun _ _ => True) 4 0 () (by omega) trivial
    (fun n _ _ => pk_le 4 4 (fun _ => H) (fun z => absurd z (by omega)))
    (fun n i _ hi _ hw => pk_le 4 i (fun z => absurd z (by omega)) (fun _ => ⟨pk_in i 4 hi, br_t (by rw [nI_clamp (by omega)]; exact h i hi) (nm_r (pk_mul (7 ^ i) 7) (nm_r (nI_1 i) (hw () trivial)))⟩))
theorem ms_solutions {post : Int32 → St2 → Prop} {c : Int32} {a1 a2 a3 a4 a5 : Nat → Int32} (H : ∀ a : Nat → Int32, post 2401 (0, 0, a1, a2, a, a4, a5)) : wpX_solutions post (0, c, a1, a2, a3, a4, a5) := by
  unfold wpX_solutions
  exact ms_solve (fun a h => br_t rfl (ms_ways h (H a)))
/-- add, the first one: equation 0, its numbers are the digits in base 7 -/
theorem ms_add {post : Int32 → St2 → Prop} {c p0 : Int32} {a1 a2 a3 a4 a5 : Nat → Int32} {t : Nat} (ht : t < 2 ^ 31) (et : p0 &&& 2147483647 = nI t)
    (H : ∀ a : Nat → Int32, (∀ j, j < 5 → a j = nI (t / 7 ^ j % 7)) → post 0 (1, c, a, upd a2 0 1, a3, a4, a5)) : wpX_add post (0, c, a1, a2, a3, a4, a5) p0 := by
  unfold wpX_add
  refine br_t (by decide) (nm_r et ?_)
  have e0 : t = t / 7 ^ 0 := by rw [Nat.pow_zero, Nat.div_one]
  have L : ∃ n, wX_add_19 post 0 c n (nI (t / 7 ^ 0)) (nI 0) a1 a2 a3 a4 a5 := by
    refine pk_loop (fun n i s => wX_add_19 post 0 c n (nI (t / 7 ^ i)) (nI i) s a2 a3 a4 a5) (fun i s => ∀ j, j < i → s j = nI (t / 7 ^ j % 7)) 5 0 a1 (by omega) (fun j hj => absurd hj (by omega)) ?_ ?_
    · intro n s h
      refine pk_le 5 5 (fun _ => ⟨pk_in 0 6 (by omega), nm_e (nm_r (e' := 1) (by decide) ?_)⟩) (fun z => absurd z (by omega))
      exact sb_at (P := fun z => post z (1, c, s, upd a2 (0 : Int32).toNatClampNeg 1, a3, a4, a5)) (y := 0) (by decide) (H s h)
    · intro n i s hi h hw
      have hd : t / 7 ^ i < 2 ^ 31 := Nat.lt_of_le_of_lt (Nat.div_le_self _ _) ht
      have hx : ((0 : Int32) * 5) + nI i = nI i := ms_ix i
      have hc : (((0 : Int32) * 5) + nI i).toNatClampNeg = i := pk_cl i hx
      have hr : nI (t / 7 ^ i) - nI (t / 7 ^ i) / 7 * 7 = nI (t / 7 ^ i % 7) := pk_rem (d := 7) hd (by decide) (by decide)
      have hq : nI (t / 7 ^ i) / 7 = nI (t / 7 ^ (i + 1)) := by
        rw [Nat.pow_succ, ← Nat.div_div_eq_div_mul]
        exact pk_div (d := 7) hd (by decide) (by decide)
      exact pk_le 5 i (fun z => absurd z (by omega)) (fun _ => ⟨by decide, pk_in i 30 (by omega) hx, nm_e ⟨by decide, nm_r hq (nm_r (nI_1 i) (hw _ (ms_fill (f := fun j => nI (t / 7 ^ j % 7)) hc h hr)))⟩⟩)
  rw [← e0] at L
  exact L
/-- turn while there is one equation, which is on -/
theorem ms_turn {post : Int32 → St2 → Prop} {c p0 p1 : Int32} {a1 a2 a3 a4 a5 : Nat → Int32} (h2 : a2 0 = 1)
    (H0 : p0 = 0 → ∀ a : Nat → Int32, post 1 (1, c, a1, a, a3, a4, a5)) (H1 : ¬ p0 = 0 → ∀ a : Nat → Int32, post (-1) (1, c, a1, a, a3, a4, a5)) : wpX_turn post (1, c, a1, a2, a3, a4, a5) p0 p1 := by
  unfold wpX_turn
  refine ms_ne1 (fun e => br_t rfl ?_) (fun e => br_f (by decide) (H1 e a2))
  have H := H0 e
  subst e
  exact ⟨pk_in 0 6 (by omega), br_f (by rw [sb_cl0, h2]; decide) ⟨pk_in 0 6 (by omega), nm_e (H _)⟩⟩
/-- drop while there is one equation -/
theorem ms_drop {post : Int32 → St2 → Prop} {c : Int32} {a1 a2 a3 a4 a5 : Nat → Int32} (H : post 0 (0, c, a1, a2, a3, a4, a5)) : wpX_drop post (1, c, a1, a2, a3, a4, a5) := by
  unfold wpX_drop
  exact br_f (by decide) (nm_r (e' := 0) (by decide) H)
end
section
theorem ms_cell {post : Int32 → Prop} {L : Nat} {xs : Nat → Int32} {p : Int32} (k : Nat) (hk : k < 5) (hp : p = nI k) (hL : L ≤ 5) (H : ∀ r, post r) : wpL_cellAt post L xs () p :=
  pk_le L k (fun _ => H 0) (fun h => ⟨pk_in k L h hp, H _⟩) rfl hp
/-- the law's end: the last turn and the drop -/
theorem ms_177 {post : Int32 → St0 → Prop} {mc ms kc ks : Nat} {x4 z c : Int32} {a1 a2 a3 a4 a5 : Nat → Int32} (h2 : a2 0 = 1) (H : post 1 ()) : wL_lawOf_177 post mc ms x4 z z kc ks 1 c a1 a2 a3 a4 a5 := by
  unfold wL_lawOf_177
  exact br_t rfl (ms_turn h2 (fun e a => br_t e (br_t rfl (ms_drop (br_t rfl H)))) (fun e a => br_f e (br_t rfl (ms_drop (br_t rfl H)))))
/-- an answer that is due as an error, from the law's second set on -/
theorem ms_132e {post : Int32 → St0 → Prop} {mc ms kc ks : Nat} {x1 x2 x3 x4 x7 c : Int32} {a1 a2 a3 a4 a5 : Nat → Int32} (h2 : a2 0 = 1) (H : post 1 ())
    (h9 : ¬ x7 = -9) (hb : ∀ {ps : Int32 → St2 → Prop} {v : Int32}, ps x7 (1, c, a1, a2, a3, a4, a5) → wpX_set ps (1, c, a1, a2, a3, a4, a5) x1 x2 v) : wL_lawOf_132 post mc ms x1 x2 x3 x4 x7 kc ks 1 c a1 a2 a3 a4 a5 := by
  have K : ∀ z, wL_lawOf_153 post mc ms x1 x2 x4 x7 z kc ks 1 c a1 a2 a3 a4 a5 := by
    intro z
    unfold wL_lawOf_153
    exact hb (br_f h9 (ms_177 h2 H))
  unfold wL_lawOf_132
  exact ⟨by decide, br_c (fun _ => ⟨by decide, K _⟩) (fun _ => ⟨by decide, K _⟩)⟩
theorem ms_78e {post : Int32 → St0 → Prop} {mc ms kc ks : Nat} {x1 x2 x3 x4 x6 x7 c : Int32} {a1 a2 a3 a4 a5 : Nat → Int32} (h2 : a2 0 = 1) (H : post 1 ())
    (h9 : ¬ x7 = -9) (hb : ∀ {ps : Int32 → St2 → Prop} {v : Int32}, ps x7 (1, c, a1, a2, a3, a4, a5) → wpX_set ps (1, c, a1, a2, a3, a4, a5) x1 x2 v) : wL_lawOf_78 post mc ms x1 x2 x3 x4 x6 x7 kc ks 1 c a1 a2 a3 a4 a5 := by
  unfold wL_lawOf_78
  exact hb (br_f h9 (br_t rfl (ms_132e h2 H h9 hb)))
/-- another equation: -1 is due -/
theorem ms_78b {post : Int32 → St0 → Prop} {mc ms kc ks : Nat} {x1 x2 x3 x4 x6 c : Int32} {a1 a2 a3 a4 a5 : Nat → Int32} (h2 : a2 0 = 1) (H : post 1 ()) (h1 : ¬ x1 = 0) : wL_lawOf_78 post mc ms x1 x2 x3 x4 x6 (-1) kc ks 1 c a1 a2 a3 a4 a5 :=
  ms_78e h2 H (by decide) (fun hp => ms_set1 (fun _ => hp) (fun e => absurd e h1) (fun e => absurd e h1))
/-- a place out of range: -2 is due -/
theorem ms_71 {post : Int32 → St0 → Prop} {mc ms kc ks : Nat} {x1 x2 x3 x4 x6 c : Int32} {a1 a2 a3 a4 a5 : Nat → Int32} (h2 : a2 0 = 1) (H : post 1 ()) (h1 : x1 = 0) (hu : x2 < 0 ∨ ¬ x2 ≤ 4) : wL_lawOf_71 post mc ms x1 x2 x3 x4 x6 kc ks 1 c a1 a2 a3 a4 a5 := by
  unfold wL_lawOf_71
  refine ms_78e h2 H (by decide) (fun hp => ms_set1 (fun e => absurd h1 e) (fun _ _ => hp) (fun _ k hk ek => ?_))
  refine absurd hu (fun z => z.elim (fun g => ?_) (fun g => ?_))
  · rw [ek] at g
    exact nI_pos (by omega) g
  · rw [ek] at g
    exact g (nI_le (b := 4) (by omega) (by decide))
/-- two places in range that are one int are one place -/
theorem ms_inj {k j : Nat} {x : Int32} (hk : k < 5) (hj : j < 5) (h : x = nI k) (g : x = nI j) : j = k :=
  (nI_eq (by omega) (by omega)).mp (g.symm.trans h)
/-- a place in range: a digit is due, then what was set -/
theorem ms_78k {post : Int32 → St0 → Prop} {mc ms kc ks t : Nat} {x1 x2 x3 x4 c : Int32} {a1 a2 a3 a4 a5 : Nat → Int32} (h2 : a2 0 = 1) (H : post 1 ()) (h1 : x1 = 0) (k : Nat) (hk : k < 5) (ek : x2 = nI k)
    (hd : ∀ j, j < 5 → a1 j = nI (t / 7 ^ j % 7)) : wL_lawOf_78 post mc ms x1 x2 x3 x4 (nI (t % 7)) (-9) kc ks 1 c a1 a2 a3 a4 a5 := by
  have hs : ∀ {ps : Int32 → St2 → Prop} {v : Int32} {b : Nat → Int32}, ps (b k) (1, c, upd b k (ms_mod v), a2, a3, a4, a5) → wpX_set ps (1, c, b, a2, a3, a4, a5) x1 x2 v := by
    intro ps v b hp
    refine ms_set1 (fun e => absurd h1 e) (fun _ hu => ?_) (fun _ j hj ej => ?_)
    · refine absurd hu (fun z => z.elim (fun g => ?_) (fun g => ?_))
      · rw [ek] at g
        exact nI_pos (by omega) g
      · rw [ek] at g
        exact g (nI_le (b := 4) (by omega) (by decide))
    · rw [ms_inj hk hj ek ej]
      exact hp
  have K : wL_lawOf_153 post mc ms x1 x2 x4 (-9) (ms_mod x3) kc ks 1 c (upd a1 k (ms_mod x3)) a2 a3 a4 a5 := by
    unfold wL_lawOf_153
    refine hs (br_t rfl ?_)
    rw [pk_us]
    exact ms_177 h2 H
  have K2 : wL_lawOf_132 post mc ms x1 x2 x3 x4 (-9) kc ks 1 c (upd a1 k (ms_mod x3)) a2 a3 a4 a5 := by
    unfold wL_lawOf_132
    refine ⟨by decide, br_c (fun h => ⟨by decide, ?_⟩) (fun h => ⟨by decide, ?_⟩)⟩
    · rw [ms_mod_t h] at K ⊢
      exact K
    · rw [ms_mod_f h] at K ⊢
      exact K
  unfold wL_lawOf_78
  refine hs ?_
  rw [hd k hk]
  have hm : t / 7 ^ k % 7 < 7 := Nat.mod_lt _ (by omega)
  refine br_t rfl (br_f (nI_pos (by omega)) (br_f (nI_nlt (b := t / 7 ^ k % 7) (a := 6) (by omega) (by decide)) (br_c (fun e => br_t ?_ K2) (fun _ => K2))))
  have e0 : k = 0 := ms_inj (by omega) hk (x := x2) e ek
  rw [e0, Nat.pow_zero, Nat.div_one]
theorem ms_lawOf {post : Int32 → St0 → Prop} {p0 p1 p2 p3 p4 : Int32} (H : post 1 ()) : wpL_lawOf post 6 72 () p0 p1 p2 p3 p4 := by
  obtain ⟨t, ht, et⟩ := pk_andE p0 (m := 2147483647) 31 (by decide)
  unfold wpL_lawOf
  refine ⟨by omega, by omega, 5, 65, by omega, by omega, ?_⟩
  unfold wpX_init
  refine ⟨by omega, by omega, by omega, by omega, by omega, by omega, by omega, by omega, by omega, by omega, ?_⟩
  refine ms_set0 (br_t rfl (ms_solutions (fun a3 => br_t rfl (ms_add ht et (fun a1 hd => br_t rfl ⟨by decide, ?_⟩)))))
  have h2 : ∀ f : Nat → Int32, upd f 0 1 0 = 1 := fun f => pk_us
  refine nm_r (e' := nI (t % 7)) (by rw [et]; exact pk_rem (d := 7) ht (by decide) (by decide)) ?_
  refine br_c (fun e => br_c (fun g => ms_71 (h2 _) H e (Or.inl g)) (fun g => br_c (fun q => ?_) (fun q => ms_71 (h2 _) H e (Or.inr q)))) (fun e => ms_78b (h2 _) H e)
  obtain ⟨k, hk, ek⟩ := nI_of2 (M := 4) (n := 4) (by decide) g q
  exact ms_78k (h2 _) H e k (by omega) ek hd
theorem i_vc (xs : Nat → Int32) (L : Nat) (hL : L ≤ 5) : wpL_law (fun r => r = 1) L xs :=
  ms_cell 0 (by omega) rfl hL (fun _ => ms_cell 1 (by omega) rfl hL (fun _ => ms_cell 2 (by omega) rfl hL (fun _ => ms_cell 3 (by omega) rfl hL (fun _ => ms_cell 4 (by omega) rfl hL (fun _ => ⟨6, 72, by omega, by omega, ms_lawOf rfl⟩)))))
end
