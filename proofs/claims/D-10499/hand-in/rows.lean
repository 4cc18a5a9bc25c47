section
/-! the methods: each ends, for any post that holds of what it may answer -/
theorem jg_ix (k i : Nat) : nI k * 16 + nI i = nI (k * 16 + i) := by
  rw [← nI_add, ← pk_mul]; rfl
theorem jg_step {post : Int32 → Prop} {x : Int32} (H : ∀ r, post r) : wpX_step post () x := fun _ _ _ _ => H _
theorem jg_apply {post : Int32 → Prop} {f : Int32} {a1 a2 a3 a4 : Nat → Int32} (k : Nat) (hk : k ≤ 15) (x : Int32) (H : ∀ r, post r) : wpX_apply post (f, a1, a2, a3, a4) (nI k) x := by
  unfold wpX_apply
  exact pk_loop (fun n i s => wX_apply_5 post (nI k) x f a1 a2 a3 a4 n s (nI i)) (fun _ _ => True) 16 0 (0 : Int32) (by omega) trivial
    (fun n s _ => pk_le 16 16 (fun _ => H s) (fun z => absurd z (by omega)))
    (fun n i s hi _ hw => pk_le 16 i (fun z => absurd z (by omega)) (fun _ => br_c (fun _ => nm_r (nI_1 i) (hw _ trivial)) (fun _ => ⟨pk_in (k * 16 + i) 272 (by omega) (jg_ix k i), nm_e (nm_r (nI_1 i) (hw _ trivial))⟩)))
/-- the constructor's inner loop: one more row of images -/
theorem jg_80 {post : St2 → Prop} {mc ms kc ks : Nat} {J : Int32 → (Nat → Int32) → (Nat → Int32) → (Nat → Int32) → (Nat → Int32) → Prop} {f : Int32} {b1 b2 b3 b4 : Nat → Int32} (k : Nat) (hk : k ≤ 15) (H : ∀ b, J (nI (k + 1 + 1)) b1 b b3 b4) : ∃ n, wX_init_80 post mc ms J (nI (k + 1)) kc ks f n 0 b1 b2 b3 b4 := by
  refine pk_loop (fun n i s => wX_init_80 post mc ms J (nI (k + 1)) kc ks f n (nI i) b1 s b3 b4) (fun _ _ => True) 16 0 b2 (by omega) trivial
    (fun n s _ => pk_le 16 16 (fun _ => nm_r (nI_1 (k + 1)) (H s)) (fun z => absurd z (by omega)))
    (fun n i s hi _ hw => pk_le 16 i (fun z => absurd z (by omega)) (fun _ => ?_))
  rw [nI_pred]
  exact ⟨pk_in (k * 16 + i) 272 (by omega) (jg_ix k i), nm_e (jg_apply k hk _ (fun r => ⟨pk_in ((k + 1) * 16 + i) 272 (by omega) (jg_ix (k + 1) i), nm_e (nm_r (nI_1 i) (hw _ trivial))⟩))⟩
theorem jg_72 {post : St2 → Prop} {mc ms kc ks : Nat} {f : Int32} {b1 b2 b3 b4 : Nat → Int32} (H : ∀ b, post (f, b1, b, b3, b4)) : ∃ n, wX_init_72 post mc ms kc ks f n 1 b1 b2 b3 b4 := by
  refine pk_loop (fun n i s => wX_init_72 post mc ms kc ks f n (nI i) b1 s b3 b4) (fun i _ => 1 ≤ i) 17 1 b2 (by omega) (by omega)
    (fun n s _ => pk_lt 16 17 (fun _ => H s) (fun z => absurd z (by omega)))
    (fun n i s hi h hw => pk_lt 16 i (fun z => absurd z (by omega)) (fun _ => ?_))
  obtain ⟨k, rfl⟩ : ∃ k, i = k + 1 := ⟨i - 1, by omega⟩
  exact jg_80 k (by omega) (fun b => hw b (by omega))
theorem jg_46 {post : St2 → Prop} {mc ms kc ks : Nat} {f : Int32} {b1 b2 b3 b4 : Nat → Int32} (H : ∀ b, post (f, b1, b, b3, b4)) : ∃ n, wX_init_46 post mc ms kc ks f n 0 b1 b2 b3 b4 :=
  pk_loop (fun n i s => wX_init_46 post mc ms kc ks f n (nI i) b1 s b3 b4) (fun _ _ => True) 16 0 b2 (by omega) trivial
    (fun n s _ => pk_le 16 16 (fun _ => jg_72 H) (fun z => absurd z (by omega)))
    (fun n i s hi _ hw => pk_le 16 i (fun z => absurd z (by omega)) (fun _ => jg_step (fun r => ⟨pk_in i 272 (by omega), nm_e (nm_r (nI_1 i) (hw _ trivial))⟩)))
theorem jg_init {post : St2 → Prop} {f : Int32} (H : ∀ b, post (1, (fun _ => 0), b, (fun _ => 0), (fun _ => 0))) : wpX_init post 4 2328 f := by
  unfold wpX_init
  exact ⟨by omega, by omega, by omega, by omega, by omega, by omega, by omega, by omega, jg_46 H⟩
theorem jg_isMark {post : Int32 → Prop} {p : Int32} (h0 : (p < 0 ∨ 8 ≤ p) → post 0) (h1 : ∀ j : Nat, j < 8 → p = nI j → post 1) : wpX_isMark post () p := by
  unfold wpX_isMark
  refine br_c (fun h => h0 (Or.inl h)) (fun h => br_c (fun g => h0 (Or.inr g)) (fun g => ?_))
  rcases pk_ix p (n := 8) (by omega) with z | z | ⟨j, hj, e⟩
  · exact absurd z h
  · exact absurd z g
  · exact h1 j hj e
theorem jg_back {post : Int32 → St2 → Prop} {f : Int32} {a1 a2 a3 a4 : Nat → Int32} {p : Int32} (ha : ∀ j, a1 j = 0) (H : post 0 (f, a1, a2, a3, a4)) : wpX_back post (f, a1, a2, a3, a4) p := by
  unfold wpX_back
  exact jg_isMark (fun _ => br_t rfl H) (fun j hj e => br_f (by decide) ⟨pk_in j 8 hj e, br_t (ha _) H⟩)
theorem jg_between {post : Int32 → St2 → Prop} {f : Int32} {a1 a2 a3 a4 : Nat → Int32} {p q : Int32} (ha : ∀ j, a1 j = 0) (H : post (-1) (f, a1, a2, a3, a4)) : wpX_between post (f, a1, a2, a3, a4) p q := by
  unfold wpX_between
  exact jg_isMark (fun _ => br_t rfl H) (fun j hj e => br_f (by decide) (jg_isMark (fun _ => br_t rfl H) (fun _ _ _ => br_f (by decide) ⟨pk_in j 8 hj e, br_t (ha _) H⟩)))
theorem jg_mark {post : Int32 → St2 → Prop} {f : Int32} {a1 a2 a3 a4 : Nat → Int32} {p : Int32} (h0 : (p < 0 ∨ 8 ≤ p) → post 0 (f, a1, a2, a3, a4)) (h1 : ∀ j : Nat, j < 8 → p = nI j → ∀ b, post 1 (f, b, a2, a3, a4)) : wpX_mark post (f, a1, a2, a3, a4) p := by
  unfold wpX_mark
  exact jg_isMark (fun z => br_t rfl (h0 z)) (fun j hj e => br_f (by decide) ⟨pk_in j 8 hj e, nm_e (h1 j hj e _)⟩)
theorem jg_seed {post : Int32 → St2 → Prop} {f : Int32} {a1 a2 a3 a4 : Nat → Int32} {p : Int32} (h0 : (p < 1 ∨ 65535 < p) → post 0 (f, a1, a2, a3, a4)) (h1 : ¬ (p < 1 ∨ 65535 < p) → post 1 (p, a1, a2, a3, a4)) : wpX_seed post (f, a1, a2, a3, a4) p := by
  unfold wpX_seed
  show wpX_isState _ () p
  unfold wpX_isState
  exact br_c (fun h => br_t rfl (h0 (Or.inl h))) (fun h => br_c (fun g => br_t rfl (h0 (Or.inr g))) (fun g => br_f (by decide) (h1 (fun z => z.elim h g))))
theorem jg_msk (x : Int32) : x &&& (((1 : Int32) <<< (nI 0 &&& 31)) - 1) = 0 := by
  rw [show ((1 : Int32) <<< (nI 0 &&& 31)) - 1 = 0 from by decide]
  exact Int32.and_zero
/-- nextRound ends; at k = 0 its answer is 0 -/
theorem jg_19 {post : Int32 → Prop} {f x : Int32} {a1 a2 a3 a4 : Nat → Int32} (k : Nat) (H : ∀ r, (k = 0 → r = 0) → post r) : ∃ n, wX_nextRound_19 post (nI k) f a1 a2 a3 a4 n x 0 := by
  refine pk_loop (fun n i s => wX_nextRound_19 post (nI k) f a1 a2 a3 a4 n s (nI i)) (fun i _ => k = 0 → i = 0) 65535 0 x (by omega) (fun _ => rfl)
    (fun n s h => pk_le 65535 65535 (fun _ => H _ (fun e => absurd (h e) (by omega))) (fun z => absurd z (by omega)))
    (fun n i s hi h hw => pk_le 65535 i (fun z => absurd z (by omega)) (fun _ => br_c (fun _ => H _ (fun e => by rw [h e]; rfl)) (fun g => jg_step (fun r => nm_r (nI_1 i) (hw r (fun e => ?_))))))
  subst e
  exact absurd (jg_msk s) g
end
section
/-- nextRound's answer, as the law reads it -/
theorem jg_next {post : Int32 → Prop} {f : Int32} {a1 a2 a3 a4 : Nat → Int32} {p : Int32} (h0 : p < 0 → post (-1)) (h9 : ¬ p < 0 → ¬ p ≤ 8 → post (-1)) (h : ∀ (k : Nat) (r : Int32), k ≤ 8 → p = nI k → ¬ p < 0 → p ≤ 8 → (k = 0 → r = 0) → post r) : wpX_nextRound post (f, a1, a2, a3, a4) p := by
  unfold wpX_nextRound
  refine br_c h0 (fun g0 => br_c (fun g8 => ?_) (h9 g0))
  obtain ⟨k, hk, rfl⟩ := nI_of2 (M := 8) (n := 8) (by decide) g0 g8
  exact jg_19 k (fun r hr => h k r hk rfl g0 g8 hr)
theorem jg_126 {mc ms kc ks : Nat} {x3 : Int32} : wL_lawOf_126 (fun r _ => r = 1) mc ms x3 (-1) kc ks := by
  unfold wL_lawOf_126 wL_lawOf_131
  exact br_f (by decide) (br_t rfl rfl)
theorem jg_131 {mc ms kc ks k : Nat} {x3 x7 : Int32} (hk : k ≤ 8) (e : x3 = nI k) (hr : k = 0 → x7 = 0) : wL_lawOf_131 (fun r _ => r = 1) mc ms x3 x7 0 kc ks := by
  unfold wL_lawOf_131
  exact br_t rfl (pk_lt 0 k (fun _ => rfl) (fun z => br_t (hr (by omega)) rfl) rfl e)
/-- behind the mark: what seed answers and the state, as due -/
theorem jg_L80 {mc ms kc ks : Nat} {a1 a2 a3 a4 : Nat → Int32} {x0 x3 x5 x6 z : Int32} (hn : (x0 < 1 ∨ 65535 < x0) → x5 = 0 ∧ x6 = 1) (hy : ¬ (x0 < 1 ∨ 65535 < x0) → x5 = 1 ∧ x6 = x0) : wL_lawOf_80 (fun r _ => r = 1) mc ms x0 x3 x5 x6 z z kc ks 1 a1 a2 a3 a4 := by
  unfold wL_lawOf_80
  refine br_t rfl (jg_seed (fun h => ?_) (fun h => ?_))
  · obtain ⟨rfl, rfl⟩ := hn h
    refine br_t rfl ?_
    unfold wpX_state
    exact br_t rfl (jg_next (fun g => br_t g jg_126) (fun g g2 => br_f g (br_f g2 jg_126)) (fun k r hk e g g2 hr => br_f g (br_t g2 (jg_131 hk e hr))))
  · obtain ⟨rfl, rfl⟩ := hy h
    refine br_t rfl ?_
    unfold wpX_state
    exact br_t rfl (jg_next (fun g => br_t g jg_126) (fun g g2 => br_f g (br_f g2 jg_126)) (fun k r hk e g g2 hr => br_f g (br_t g2 (jg_131 hk e hr))))
theorem jg_L37 {mc ms kc ks : Nat} {a2 a3 a4 : Nat → Int32} {x0 x1 x2 x3 x5 x6 : Int32} (hn : (x0 < 1 ∨ 65535 < x0) → x5 = 0 ∧ x6 = 1) (hy : ¬ (x0 < 1 ∨ 65535 < x0) → x5 = 1 ∧ x6 = x0) : wL_lawOf_37 (fun r _ => r = 1) mc ms x0 x1 x2 x3 x5 x6 kc ks 1 (fun _ => 0) a2 a3 a4 := by
  unfold wL_lawOf_37
  refine jg_back (fun _ => rfl) (br_t rfl (jg_between (fun _ => rfl) (br_t rfl (jg_mark (fun h => ?_) (fun j hj e b => ?_)))))
  · refine br_c (fun _ => ?_) (fun g => br_c (fun _ => ?_) (fun g2 => ?_))
    · unfold wL_lawOf_79
      exact jg_L80 hn hy
    · unfold wL_lawOf_79
      exact jg_L80 hn hy
    · rcases h with h | h
      · exact absurd h g
      · exfalso
        rw [Int32.lt_iff_toInt_lt] at g2
        rw [Int32.le_iff_toInt_le] at h
        have e7 : (7 : Int32).toInt = 7 := by decide
        have e8 : (8 : Int32).toInt = 8 := by decide
        omega
  · subst e
    exact br_f (nI_pos (by omega)) (pk_lt 7 j (fun z => absurd z (by omega)) (fun _ => jg_L80 hn hy))
theorem jg_lawOf (p0 p1 p2 p3 : Int32) : wpL_lawOf (fun r _ => r = 1) 5 2333 () p0 p1 p2 p3 := by
  unfold wpL_lawOf
  refine ⟨by omega, by omega, 4, 2328, by omega, by omega, jg_init (fun b => ?_)⟩
  refine br_c (fun h => ?_) (fun h => br_c (fun g => ?_) (fun g => ?_))
  · unfold wL_lawOf_24 wL_lawOf_25
    exact br_t rfl (jg_L37 (fun _ => ⟨rfl, rfl⟩) (fun z => absurd (Or.inl h) z))
  · unfold wL_lawOf_24 wL_lawOf_25
    exact br_t rfl (jg_L37 (fun _ => ⟨rfl, rfl⟩) (fun z => absurd (Or.inr g) z))
  · unfold wL_lawOf_25
    exact br_f (by decide) (jg_L37 (fun z => absurd z (fun y => y.elim h g)) (fun _ => ⟨rfl, rfl⟩))
theorem jg_cell {post : Int32 → Prop} {L : Nat} {xs : Nat → Int32} (hL : L ≤ 4) (i : Nat) (hi : i < 4) {p : Int32} (hp : p = nI i) (H : ∀ r, post r) : wpL_cellAt post L xs () p := by
  unfold wpL_cellAt
  exact pk_le L i (fun _ => H _) (fun z => ⟨pk_in i L z hp, H _⟩) rfl hp
theorem i_vc (xs : Nat → Int32) (L : Nat) (hL : L ≤ 4) : wpL_law (fun r => r = 1) L xs := by
  unfold wpL_law
  exact jg_cell hL 0 (by omega) rfl (fun a => jg_cell hL 1 (by omega) rfl (fun b => jg_cell hL 2 (by omega) rfl (fun c => jg_cell hL 3 (by omega) rfl (fun d => ⟨5, 2333, by omega, by omega, jg_lawOf a b c d⟩))))
end
