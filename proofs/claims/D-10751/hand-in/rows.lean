section
/-- the picture: the first n symbols are all c -/
def rf_C (a : Nat → Int32) (n : Nat) (c : Int32) : Prop := ∀ j, j < n → a j = c
/-- the runs of a text of n equal symbols stand in the tables -/
def rf_D (n : Nat) (rc : Int32) (a3 a4 a5 : Nat → Int32) : Prop := (n < 2 ∧ rc = 0) ∨ (2 ≤ n ∧ rc = 1 ∧ a3 0 = 0 ∧ a4 0 = nI (n - 1) ∧ a5 0 = 1)
/-- no run yet, or all of them -/
def rf_M (n : Nat) (rc : Int32) (a3 a4 a5 : Nat → Int32) : Prop := rc = 0 ∨ rf_D n rc a3 a4 a5
theorem rf_MD {n : Nat} {rc : Int32} {a3 a4 a5 : Nat → Int32} (h : rf_M n rc a3 a4 a5) (hn : n < 2) : rf_D n rc a3 a4 a5 := by
  rcases h with h | h
  · exact Or.inl ⟨hn, h⟩
  · exact h
theorem rf_sub {x i : Nat} (h : i < x) : nI x - 1 - nI i = nI (x - 1 - i) := by
  obtain ⟨q, rfl⟩ : ∃ q, x = q + 1 := ⟨x - 1, by omega⟩
  rw [nI_pred, pk_sub (by omega), show q + 1 - 1 - i = q - i by omega]
theorem rf_dec (i : Nat) : nI i + (-1) = nI i - 1 := (Int32.sub_eq_add_neg _ _).symm
/-- forward over equal symbols goes to the end -/
theorem rf_fwd {post : Int32 → Prop} {n x y : Nat} {rc cu c : Int32} {a1 a2 a3 a4 a5 : Nat → Int32} (hn : n ≤ 48) (hxy : x ≤ y) (hy : y ≤ n) (hC : rf_C a1 n c) (H : post (nI (n - y))) :
    wpX_forward post (nI n, rc, cu, a1, a2, a3, a4, a5) (nI x) (nI y) :=
  pk_loop (σ := Unit) (fun k i _ => wX_forward_2 post (nI x) (nI y) (nI n) rc cu a1 a2 a3 a4 a5 k (nI i)) (fun _ _ => True) (n - y) 0 () (by omega) trivial
    (fun k _ _ => pk_le n (x + (n - y)) (fun _ => H) (fun _ => pk_le n (y + (n - y)) (fun _ => H) (fun z => absurd z (by omega)) rfl (nI_add _ _)) rfl (nI_add _ _))
    (fun k i _ hi _ hw => pk_le n (x + i) (fun z => absurd z (by omega)) (fun _ => pk_le n (y + i) (fun z => absurd z (by omega)) (fun _ => ⟨pk_in (x + i) 48 (by omega) (nI_add _ _), pk_in (y + i) 48 (by omega) (nI_add _ _), br_t (by rw [pk_cl (x + i) (nI_add x i), pk_cl (y + i) (nI_add y i), hC (x + i) (by omega), hC (y + i) (by omega)]) (nm_r (nI_1 i) (hw () trivial))⟩) rfl (nI_add _ _)) rfl (nI_add _ _))
/-- backward over equal symbols goes to the start -/
theorem rf_bwd {post : Int32 → Prop} {n x y : Nat} {rc cu c : Int32} {a1 a2 a3 a4 a5 : Nat → Int32} (hn : n ≤ 48) (hxy : x ≤ y) (hy : y ≤ n) (hC : rf_C a1 n c) (H : post (nI x)) :
    wpX_backward post (nI n, rc, cu, a1, a2, a3, a4, a5) (nI x) (nI y) :=
  pk_loop (σ := Unit) (fun k i _ => wX_backward_2 post (nI x) (nI y) (nI n) rc cu a1 a2 a3 a4 a5 k (nI i)) (fun _ _ => True) x 0 () (by omega) trivial
    (fun k _ _ => pk_le x x (fun _ => H) (fun z => absurd z (by omega)))
    (fun k i _ hi _ hw => pk_le x i (fun z => absurd z (by omega)) (fun _ => pk_le y i (fun z => absurd z (by omega)) (fun _ => ⟨pk_in (x - 1 - i) 48 (by omega) (rf_sub hi), pk_in (y - 1 - i) 48 (by omega) (rf_sub (by omega)), br_t (by rw [pk_cl (x - 1 - i) (rf_sub hi), pk_cl (y - 1 - i) (rf_sub (by omega)), hC (x - 1 - i) (by omega), hC (y - 1 - i) (by omega)]) (nm_r (nI_1 i) (hw () trivial))⟩)))
/-- a later ending comes before an earlier one -/
theorem rf_cb {post : Int32 → Prop} {n x y : Nat} {rc cu c p : Int32} {a1 a2 a3 a4 a5 : Nat → Int32} (hn : n ≤ 48) (hxy : x ≤ y) (hy : y ≤ n) (hC : rf_C a1 n c) (H : post 1) :
    wpX_comesBefore post (nI n, rc, cu, a1, a2, a3, a4, a5) (nI y) (nI x) p := by
  unfold wpX_comesBefore
  dsimp only
  exact rf_fwd hn hxy hy hC (pk_lt (y + (n - y)) n (fun z => absurd z (by omega)) (fun _ => H) (nI_add _ _))
/-- every position's next smaller ending is the next one -/
theorem rf_fe {post : St2 → Prop} {n : Nat} {rc cu c p : Int32} {a1 a2 a3 a4 a5 : Nat → Int32} (hn : n ≤ 48) (hC : rf_C a1 n c) (H : ∀ s, (∀ j, j < n → s j = nI (j + 1)) → post (nI n, rc, cu, a1, s, a3, a4, a5)) :
    wpX_findEndings post (nI n, rc, cu, a1, a2, a3, a4, a5) p := by
  have T := pk_loopD (fun k i s => wX_findEndings_20 post p (nI n) rc cu k (nI i - 1) a1 s a3 a4 a5) (fun i s => i ≤ n ∧ ∀ j, i ≤ j → j < n → s j = nI (j + 1))
    (fun k s h => br_t (by decide) (H s (fun j hj => h.2 j (by omega) hj)))
    (fun k i s h hw => by
      have hS : ∀ j, i ≤ j → j < n → upd s i (nI (i + 1)) j = nI (j + 1) := by
        intro j h1 h2
        by_cases e : j = i
        · rw [e, pk_us]
        · rw [pk_un e]
          exact h.2 j (by omega) h2
      have hi := h.1
      have J : vp_in (nI i) 49 ∧ ∀ a2' : Nat → Int32, a2' = upd s (nI i).toNatClampNeg (nI (i + 1)) → (∀ x' : Int32, x' = nI i + (-1) → wX_findEndings_20 post p (nI n) rc cu k x' a1 a2' a3 a4 a5) :=
        ⟨pk_in i 49 (by omega), nm_r (by rw [nI_clamp (show i < 2 ^ 31 by omega)]) (nm_r (rf_dec i) (hw _ ⟨by omega, hS⟩))⟩
      show wX_findEndings_20 post p (nI n) rc cu (k + 1) (nI (i + 1) - 1) a1 s a3 a4 a5
      rw [nI_pred]
      exact br_f (nI_pos (by omega)) (nm_r (nI_1 i) ⟨1, pk_le 48 0 (fun z => absurd z (by omega)) (fun _ => pk_le n (i + 1) (fun _ => J) (fun z => rf_cb hn (Nat.le_succ i) (by omega) hC (br_f (by decide) J)))⟩))
    n (upd a2 n (nI n)) ⟨Nat.le_refl n, fun j h1 h2 => absurd h1 (by omega)⟩
  exact ⟨pk_in n 49 (by omega), nm_r (by rw [nI_clamp (show n < 2 ^ 31 by omega)]) (nm_e ⟨n + 1, T⟩)⟩
/-- the run of all symbols is put in once -/
theorem rf_ins {post : St2 → Prop} {n : Nat} {x rc cu : Int32} {a1 a2 a3 a4 a5 : Nat → Int32} (hn : 2 ≤ n) (hM : rf_M n rc a3 a4 a5) (H : ∀ rc' b3 b4 b5, rf_D n rc' b3 b4 b5 → post (x, rc', cu, a1, a2, b3, b4, b5)) :
    wpX_insert post (x, rc, cu, a1, a2, a3, a4, a5) 0 (nI (n - 1)) 1 := by
  have h0 : rc = 0 → wpX_insert post (x, rc, cu, a1, a2, a3, a4, a5) 0 (nI (n - 1)) 1 := by
    intro e
    subst e
    exact ⟨1, br_t (by decide) (br_t (by decide) (br_f (by decide) ⟨1, br_t (by decide) ⟨pk_in 0 100 (by omega), nm_e ⟨pk_in 0 100 (by omega), nm_e ⟨pk_in 0 100 (by omega), nm_e (nm_e (H _ _ _ _ (Or.inr ⟨hn, rfl, rfl, rfl, rfl⟩)))⟩⟩⟩⟩))⟩
  rcases hM with e | e
  · exact h0 e
  · rcases e with e | e
    · exact h0 e.2
    · obtain ⟨_, e1, e3, e4, e5⟩ := e
      have e3' : a3 ((1 : Int32) - 1).toNatClampNeg = 0 := e3
      have e5' : a5 ((1 : Int32) - 1).toNatClampNeg = 1 := e5
      subst e1
      exact ⟨1, br_f (by decide) ⟨pk_in 0 100 (by omega), br_f (by rw [e3']; decide) ⟨pk_in 0 100 (by omega), br_t e3' ⟨pk_in 0 100 (by omega), br_t (by rw [e5']; decide) (br_f (by decide) ⟨pk_in 0 100 (by omega), br_t e3' ⟨pk_in 0 100 (by omega), br_t e5' (H _ _ _ _ (Or.inr ⟨hn, rfl, e3, e4, e5⟩))⟩⟩)⟩⟩⟩⟩
theorem rf_w22 {post : St2 → Prop} {n i r : Nat} {rc cu c : Int32} {a1 a2 a3 a4 a5 : Nat → Int32} (hn : n ≤ 48) (hr : i + 1 + r = n) (hC : rf_C a1 n c) (hM : rf_M n rc a3 a4 a5) (H : ∀ rc' b3 b4 b5, rf_D n rc' b3 b4 b5 → post (nI n, rc', cu, a1, a2, b3, b4, b5)) :
    wX_widen_22 post (nI i) (nI (i + 1)) 1 (nI r) (nI n) rc cu a1 a2 a3 a4 a5 := by
  unfold wX_widen_22
  refine rf_bwd hn (Nat.le_succ i) (by omega) hC (pk_lt (i + r) 1 (fun z => H _ _ _ _ (rf_MD hM (by omega))) (fun z => ?_) (nI_add _ _))
  rw [pk_sub (Nat.le_refl i), Nat.sub_self, nI_add, hr, show nI n - 1 = nI (n - 1) from pk_sub (b := 1) (by omega)]
  exact rf_ins (by omega) hM H
theorem rf_wid {post : St2 → Prop} {n i : Nat} {rc cu c : Int32} {a1 a2 a3 a4 a5 : Nat → Int32} (hn : n ≤ 48) (hi : i < n) (hC : rf_C a1 n c) (hM : rf_M n rc a3 a4 a5) (H : ∀ rc' b3 b4 b5, rf_D n rc' b3 b4 b5 → post (nI n, rc', cu, a1, a2, b3, b4, b5)) :
    wpX_widen post (nI n, rc, cu, a1, a2, a3, a4, a5) (nI i) (nI (i + 1)) := by
  unfold wpX_widen
  dsimp only
  refine nm_r (e' := (1 : Int32)) (by rw [pk_sub (Nat.le_succ i), show i + 1 - i = 1 by omega]; rfl) (pk_le n (i + 1) (fun z => ?_) (fun z => ?_))
  · exact rf_w22 (r := 0) hn (by omega) hC hM H
  · exact rf_fwd hn (Nat.le_succ i) (by omega) hC (rf_w22 hn (by omega) hC hM H)
end
section
/-- one side's positions, widened one behind another -/
theorem rf_40 {post : St2 → Prop} {J : Int32 → Int32 → Int32 → Int32 → (Nat → Int32) → (Nat → Int32) → (Nat → Int32) → (Nat → Int32) → (Nat → Int32) → Prop} {n : Nat} {x1 rc cu c : Int32} {a1 a2 a3 a4 a5 : Nat → Int32} (hn : n ≤ 48) (hC : rf_C a1 n c) (hA : ∀ j, j < n → a2 j = nI (j + 1)) (hM : rf_M n rc a3 a4 a5)
    (H : ∀ rc' b3 b4 b5, rf_D n rc' b3 b4 b5 → J (x1 + 1) (nI n) rc' cu a1 a2 b3 b4 b5) :
    ∃ k, wX_refresh_40 post J x1 k 0 (nI n) rc cu a1 a2 a3 a4 a5 :=
  pk_loop (σ := Int32 × (Nat → Int32) × (Nat → Int32) × (Nat → Int32)) (fun k i s => wX_refresh_40 post J x1 k (nI i) (nI n) s.1 cu a1 a2 s.2.1 s.2.2.1 s.2.2.2)
    (fun i s => rf_M n s.1 s.2.1 s.2.2.1 s.2.2.2 ∧ (0 < i → rf_D n s.1 s.2.1 s.2.2.1 s.2.2.2)) n 0 (rc, a3, a4, a5) (Nat.zero_le n) ⟨hM, fun z => absurd z (by omega)⟩
    (fun k s h => pk_le n n (fun _ => nm_e (H _ _ _ _ (by
      by_cases e : 0 < n
      · exact h.2 e
      · exact rf_MD h.1 (by omega)))) (fun z => absurd z (by omega)))
    (fun k i s hi h hw => pk_le n i (fun z => absurd z (by omega)) (fun _ => ⟨pk_in i 49 (by omega), by
      rw [nI_clamp (show i < 2 ^ 31 by omega), hA i hi]
      exact rf_wid hn hi hC h.1 (fun rc' b3 b4 b5 hD => nm_r (nI_1 i) (hw (rc', b3, b4, b5) ⟨Or.inr hD, fun _ => hD⟩))⟩))
theorem rf_35 {post : St2 → Prop} {J : Int32 → Int32 → Int32 → Int32 → (Nat → Int32) → (Nat → Int32) → (Nat → Int32) → (Nat → Int32) → (Nat → Int32) → Prop} {n : Nat} {x1 z rc cu c : Int32} {a1 a2 a3 a4 a5 : Nat → Int32} (hn : n ≤ 48) (hC : rf_C a1 n c) (hM : rf_M n rc a3 a4 a5)
    (H : ∀ b2 rc' b3 b4 b5, rf_D n rc' b3 b4 b5 → J (x1 + 1) (nI n) rc' cu a1 b2 b3 b4 b5) :
    wX_refresh_35 post J x1 z (nI n) rc cu a1 a2 a3 a4 a5 := by
  unfold wX_refresh_35
  exact rf_fe hn hC (fun s hs => rf_40 hn hC hs hM (fun rc' b3 b4 b5 hD => H s rc' b3 b4 b5 hD))
/-- refresh leaves the runs of the text in the tables -/
theorem rf_ref {post : St2 → Prop} {n : Nat} {rc c : Int32} {a1 a2 a3 a4 a5 : Nat → Int32} (hn : n ≤ 48) (hC : rf_C a1 n c)
    (H : ∀ b2 rc' b3 b4 b5, rf_D n rc' b3 b4 b5 → post (nI n, rc', 1, a1, b2, b3, b4, b5)) :
    wpX_refresh post (nI n, rc, 0, a1, a2, a3, a4, a5) := by
  unfold wpX_refresh
  dsimp only
  refine br_t rfl ⟨3, br_f (by decide) (br_t rfl (rf_35 hn hC (Or.inl rfl) (fun b2 rc' b3 b4 b5 hD => ?_)))⟩
  refine br_f (by decide) (br_f (by decide) (rf_35 hn hC (Or.inr hD) (fun c2 rc2 c3 c4 c5 hD2 => ?_)))
  exact br_t (by decide) (H c2 rc2 c3 c4 c5 hD2)
theorem rf_runs {post : Int32 → St2 → Prop} {n : Nat} {rc c : Int32} {a1 a2 a3 a4 a5 : Nat → Int32} (hn : n ≤ 48) (hC : rf_C a1 n c)
    (H : ∀ b2 rc' b3 b4 b5, rf_D n rc' b3 b4 b5 → post rc' (nI n, rc', 1, a1, b2, b3, b4, b5)) :
    wpX_runs post (nI n, rc, 0, a1, a2, a3, a4, a5) := by
  unfold wpX_runs
  dsimp only
  exact rf_ref hn hC H
/-- the longest run, the tables standing -/
theorem rf_lon {post : Int32 → St2 → Prop} {n : Nat} {rc : Int32} {a1 a2 a3 a4 a5 : Nat → Int32} (hn : n ≤ 48) (hD : rf_D n rc a3 a4 a5)
    (H0 : n < 2 → post 0 (nI n, rc, 1, a1, a2, a3, a4, a5)) (H1 : 2 ≤ n → post (nI n) (nI n, rc, 1, a1, a2, a3, a4, a5)) :
    wpX_longest post (nI n, rc, 1, a1, a2, a3, a4, a5) := by
  unfold wpX_longest
  dsimp only
  unfold wpX_refresh
  dsimp only
  rcases hD with ⟨h, e⟩ | ⟨h, e, e3, e4, e5⟩
  · subst e
    exact br_f (by decide) ⟨1, br_t (by decide) (H0 h)⟩
  · subst e
    have e3' : a3 (0 : Int32).toNatClampNeg = 0 := e3
    have e4' : a4 (0 : Int32).toNatClampNeg = nI (n - 1) := e4
    exact br_f (by decide) ⟨2, br_f (by decide) ⟨pk_in 0 100 (by omega), pk_in 0 100 (by omega), nm_r (e' := nI n) (by rw [e3', e4', Int32.sub_zero, nI_1, show n - 1 + 1 = n by omega])
      (pk_le n 0 (fun z => absurd z (by omega)) (fun _ => nm_e (br_t (by decide) (H1 h))))⟩⟩
end
section
/-- the law's last three checks: n equal symbols -/
theorem rf_206 {post : Int32 → St0 → Prop} {mc ms kc ks : Nat} (n : Nat) {rc c : Int32} {a1 a2 a3 a4 a5 : Nat → Int32} (hn : n ≤ 48) (hC : rf_C a1 n c) (H : post 1 ()) :
    wL_lawOf_206 post mc ms (nI n) kc ks (nI n) rc 0 a1 a2 a3 a4 a5 := by
  unfold wL_lawOf_206
  unfold wpX_length
  dsimp only
  refine br_t rfl (rf_runs hn hC (fun b2 rc' b3 b4 b5 hD => ?_))
  have h236 : ∀ z, rc' = z → wL_lawOf_236 post mc ms (nI n) z rc' kc ks (nI n) rc' 1 a1 b2 b3 b4 b5 := by
    intro z hz
    unfold wL_lawOf_236
    refine br_t hz (rf_lon hn hD (fun h => ?_) (fun h => ?_))
    · exact pk_le n 1 (fun _ => br_t rfl H) (fun g => absurd g (by omega))
    · exact pk_le n 1 (fun g => absurd g (by omega)) (fun _ => br_t rfl H)
  refine pk_le n 1 (fun g => h236 0 ?_) (fun g => h236 1 ?_)
  · rcases hD with ⟨_, e⟩ | ⟨h, _⟩
    · exact e
    · exact absurd h (by omega)
  · rcases hD with ⟨h, _⟩ | ⟨_, e, _⟩
    · exact absurd h (by omega)
    · exact e
/-- a place of an empty text: none -/
theorem rf_ip0 {post : Int32 → Prop} {rc cu p : Int32} {a1 a2 a3 a4 a5 : Nat → Int32} (H : post 0) : wpX_isPlace post (0, rc, cu, a1, a2, a3, a4, a5) p :=
  br_c (fun _ => H) (fun h => br_t (Int32.not_lt.mp h) H)
/-- a place of a text of one symbol: 0 alone -/
theorem rf_ip1 {post : Int32 → Prop} {rc cu p : Int32} {a1 a2 a3 a4 a5 : Nat → Int32} (hp : p ≠ 0) (H : post 0) : wpX_isPlace post (1, rc, cu, a1, a2, a3, a4, a5) p := by
  refine br_c (fun _ => H) (fun h => br_t ?_ H)
  obtain ⟨j, hj, rfl⟩ := nI_of h
  exact nI_le (a := 1) (by
    rcases Nat.eq_zero_or_pos j with e | e
    · exact absurd (by rw [e]; rfl) hp
    · exact e) hj
theorem rf_ip2 {post : Int32 → Prop} {rc cu : Int32} {a1 a2 a3 a4 a5 : Nat → Int32} (H : post 1) : wpX_isPlace post (1, rc, cu, a1, a2, a3, a4, a5) 0 :=
  br_f (by decide) (br_f (by decide) H)
/-- the copies: one symbol, m times more -/
theorem rf_r40 {post : Int32 → St2 → Prop} {m : Nat} {rc cu : Int32} {a1 a2 a3 a4 a5 : Nat → Int32} (hm : m ≤ 47) (H : ∀ a, (∀ j, j < m + 1 → a j = a1 0) → post (nI (m + 1)) (nI (m + 1), rc, 0, a, a2, a3, a4, a5)) :
    ∃ k, wX_repeat_40 post 0 (nI m) 1 rc cu k 0 a1 a2 a3 a4 a5 :=
  pk_loop (fun k i s => wX_repeat_40 post (nI 0) (nI m) (nI 1) rc cu k (nI i) s a2 a3 a4 a5) (fun i s => ∀ j, j < i + 1 → s j = a1 0) m 0 a1 (Nat.zero_le m) (fun j hj => by rw [show j = 0 by omega])
    (fun k s h => pk_le m m (fun _ => nm_r (e' := nI (m + 1)) (by rw [nI_add, Nat.add_comm]) (H s h)) (fun z => absurd z (by omega)))
    (fun k i s hi h hw => pk_le m i (fun z => absurd z (by omega)) (fun _ => ⟨pk_in (0 + i) 48 (by omega) (nI_add _ _), pk_in (1 + i) 48 (by omega) (nI_add _ _), nm_e (nm_r (nI_1 i) (hw _ (fun j hj => by
      rw [pk_cl (1 + i) (nI_add 1 i), pk_cl (0 + i) (nI_add 0 i)]
      by_cases e : j = 1 + i
      · rw [e, pk_us]
        exact h (0 + i) (by omega)
      · rw [pk_un e]
        exact h j (by omega))))⟩))
/-- what the law asks behind repeat, one symbol pushed and no copies made -/
theorem rf_169n {post : Int32 → St0 → Prop} {mc ms kc ks : Nat} {rc r z : Int32} {a1 a2 a3 a4 a5 : Nat → Int32} (hr : r = z) (hz : z ≤ 0) (H : post 1 ()) :
    ((r = z → (((z ≤ 0 → ((((1 : Int32) = 0 → (wL_lawOf_206 post mc ms 0 kc ks 1 rc 0 a1 a2 a3 a4 a5)) ∧ (¬ (1 : Int32) = 0 → (wL_lawOf_206 post mc ms 1 kc ks 1 rc 0 a1 a2 a3 a4 a5))))) ∧ (¬ z ≤ 0 → (wL_lawOf_206 post mc ms z kc ks 1 rc 0 a1 a2 a3 a4 a5))))) ∧ (¬ r = z → (post 0 ()))) :=
  br_t hr (br_t hz (br_f (by decide) (rf_206 1 (by omega) (c := a1 0) (fun j hj => by rw [show j = 0 by omega]) H)))
/-- from the third check on, one symbol pushed -/
theorem rf_124 {post : Int32 → St0 → Prop} {mc ms kc ks : Nat} {x3 x4 z rc : Int32} {a1 a2 a3 a4 a5 : Nat → Int32} (hz : (z = 0 ∧ x3 ≠ 0) ∨ (z = 1 ∧ x3 = 0)) (H : post 1 ()) :
    wL_lawOf_124 post mc ms x3 x4 1 z kc ks 1 rc 0 a1 a2 a3 a4 a5 := by
  rcases hz with ⟨rfl, h3⟩ | ⟨rfl, rfl⟩
  · unfold wL_lawOf_124
    refine br_t rfl ?_
    unfold wL_lawOf_169 wpX_repeat
    dsimp only
    exact rf_ip1 h3 (br_t rfl (rf_169n rfl (by decide) H))
  · have h148 : x4 < 1 ∨ ¬ x4 ≤ 48 → wL_lawOf_148 post mc ms 0 x4 1 kc ks 1 rc 0 a1 a2 a3 a4 a5 := by
      intro h
      unfold wL_lawOf_148 wL_lawOf_169 wpX_repeat
      dsimp only
      refine rf_ip2 (br_f (by decide) (br_c (fun _ => rf_169n rfl (by decide) H) (fun h1 => ?_)))
      rcases h with h | h
      · exact absurd h h1
      · exact br_f h (rf_169n rfl (by decide) H)
    unfold wL_lawOf_124
    refine br_f (by decide) (br_c (fun h => h148 (Or.inl h)) (fun h1 => br_c (fun h2 => ?_) (fun h => h148 (Or.inr h))))
    obtain ⟨m, hm, rfl⟩ := nI_of2 (M := 48) (n := 48) (by decide) (fun g => h1 (Int32.lt_trans g (by decide))) h2
    have hm1 : 1 ≤ m := by
      rcases Nat.eq_zero_or_pos m with e | e
      · exact absurd (by rw [e]; decide) h1
      · exact e
    refine pk_eq m 48 (fun e => ?_) (fun e => ?_)
    · unfold wL_lawOf_169 wpX_repeat
      dsimp only
      exact rf_ip2 (br_f (by decide) (br_f h1 (br_t h2 (pk_le (1 + m) 48 (fun g => absurd g (by omega)) (fun _ => rf_169n rfl (by decide) H) (nI_add 1 m)))))
    · unfold wL_lawOf_169 wpX_repeat
      dsimp only
      refine rf_ip2 (br_f (by decide) (br_f h1 (br_t h2 (pk_le (1 + m) 48 (fun _ => rf_r40 (by omega) (fun a ha => ?_)) (fun g => absurd g (by omega)) (nI_add 1 m)))))
      have hz : (1 : Int32) + nI m = nI (m + 1) := by
        rw [Int32.add_comm, nI_1]
      rw [hz]
      exact br_t rfl (pk_le (m + 1) 0 (fun g => absurd g (by omega)) (fun _ => rf_206 (m + 1) (by omega) ha H))
theorem rf_105 {post : Int32 → St0 → Prop} {mc ms kc ks : Nat} {x3 x4 z y rc : Int32} {a1 a2 a3 a4 a5 : Nat → Int32} (hz : y = z) (H : post 1 ()) :
    wL_lawOf_105 post mc ms x3 x4 1 z y kc ks 1 rc 0 a1 a2 a3 a4 a5 := by
  unfold wL_lawOf_105
  refine br_t hz (br_f (by decide) (br_c (fun h => rf_124 (Or.inr ⟨rfl, h⟩) H) (fun h => ?_)))
  unfold wL_lawOf_123
  exact rf_124 (Or.inl ⟨rfl, h⟩) H
/-- from the second check on, one symbol pushed -/
theorem rf_76 {post : Int32 → St0 → Prop} {mc ms kc ks : Nat} {x0 x1 x2 x3 x4 x7 z rc : Int32} {a1 a2 a3 a4 a5 : Nat → Int32} (h0 : a1 0 = x0) (h7 : (x7 = 0 ∧ x1 ≠ 0) ∨ (x7 = 1 ∧ x1 = 0)) (hz : (z = 0 ∧ (x2 < 0 ∨ 3 < x2)) ∨ (z = 1 ∧ ¬ x2 < 0 ∧ x2 ≤ 3)) (H : post 1 ()) :
    wL_lawOf_76 post mc ms x0 x1 x2 x3 x4 1 x7 z kc ks 1 rc 0 a1 a2 a3 a4 a5 := by
  unfold wL_lawOf_76 wpX_set
  dsimp only
  rcases h7 with ⟨rfl, h1⟩ | ⟨rfl, rfl⟩
  · exact rf_ip1 h1 (br_t rfl (br_t rfl (rf_105 rfl H)))
  · refine rf_ip2 (br_f (by decide) ?_)
    rcases hz with ⟨rfl, h2⟩ | ⟨rfl, h2, h3⟩
    · refine br_c (fun _ => br_f (by decide) (br_t rfl (rf_105 rfl H))) (fun g => br_f (fun g3 => ?_) (br_f (by decide) (br_t rfl (rf_105 rfl H))))
      rcases h2 with h2 | h2
      · exact g h2
      · exact absurd g3 (Int32.not_le.mpr h2)
    · exact br_f h2 (br_t h3 ⟨pk_in 0 48 (by omega), nm_e ⟨pk_in 0 48 (by omega), nm_e (br_f (by decide) (br_f (by decide) (rf_105 h0 H)))⟩⟩)
theorem rf_60 {post : Int32 → St0 → Prop} {mc ms kc ks : Nat} {x0 x1 x2 x3 x4 x7 rc : Int32} {a1 a2 a3 a4 a5 : Nat → Int32} (h0 : a1 0 = x0) (h7 : (x7 = 0 ∧ x1 ≠ 0) ∨ (x7 = 1 ∧ x1 = 0)) (H : post 1 ()) :
    wL_lawOf_60 post mc ms x0 x1 x2 x3 x4 1 x7 kc ks 1 rc 0 a1 a2 a3 a4 a5 := by
  unfold wL_lawOf_60 wL_lawOf_75
  exact br_c (fun h => rf_76 h0 h7 (Or.inl ⟨rfl, Or.inl h⟩) H) (fun h => br_c (fun h2 => rf_76 h0 h7 (Or.inl ⟨rfl, Or.inr h2⟩) H) (fun h2 => rf_76 h0 h7 (Or.inr ⟨rfl, h, Int32.not_lt.mp h2⟩) H))
/-- the law where a symbol is pushed -/
theorem rf_23 {post : Int32 → St0 → Prop} {mc ms kc ks : Nat} {x0 x1 x2 x3 x4 rc : Int32} {a1 a2 a3 a4 a5 : Nat → Int32} (h0 : ¬ x0 < 0) (h3 : ¬ 3 < x0) (H : post 1 ()) :
    wL_lawOf_23 post mc ms x0 x1 x2 x3 x4 1 kc ks 0 rc 0 a1 a2 a3 a4 a5 := by
  unfold wL_lawOf_23 wpX_push
  dsimp only
  refine br_f h0 (br_t (Int32.not_lt.mp h3) (br_f (by decide) ⟨pk_in 0 48 (by omega), nm_e (nm_r (e' := (1 : Int32)) (by decide) (br_f (by decide) ?_))⟩))
  unfold wL_lawOf_41
  refine br_t rfl (br_f (by decide) (br_c (fun h => rf_60 rfl (Or.inr ⟨rfl, h⟩) H) (fun h => ?_)))
  unfold wL_lawOf_59
  exact rf_60 rfl (Or.inl ⟨rfl, h⟩) H
/-- the law where no symbol is pushed -/
theorem rf_76e {post : Int32 → St0 → Prop} {mc ms kc ks : Nat} {x0 x1 x2 x3 x4 z rc : Int32} {a1 a2 a3 a4 a5 : Nat → Int32} (H : post 1 ()) :
    wL_lawOf_76 post mc ms x0 x1 x2 x3 x4 0 0 z kc ks 0 rc 0 a1 a2 a3 a4 a5 := by
  unfold wL_lawOf_76 wpX_set
  dsimp only
  refine rf_ip0 (br_t rfl (br_t rfl ?_))
  unfold wL_lawOf_105 wL_lawOf_123 wL_lawOf_124
  refine br_t rfl (br_t rfl (br_t rfl ?_))
  unfold wL_lawOf_169 wpX_repeat
  dsimp only
  exact rf_ip0 (br_t rfl (br_t rfl (br_t (by decide) (br_t rfl (rf_206 0 (by omega) (c := 0) (fun j hj => absurd hj (by omega)) H)))))
theorem rf_22 {post : Int32 → St0 → Prop} {mc ms kc ks : Nat} {x0 x1 x2 x3 x4 rc : Int32} {a1 a2 a3 a4 a5 : Nat → Int32} (h : x0 < 0 ∨ 3 < x0) (H : post 1 ()) :
    wL_lawOf_22 post mc ms x0 x1 x2 x3 x4 kc ks 0 rc 0 a1 a2 a3 a4 a5 := by
  have T : wL_lawOf_41 post mc ms x0 x1 x2 x3 x4 0 (-1) (-1) kc ks 0 rc 0 a1 a2 a3 a4 a5 := by
    unfold wL_lawOf_41 wL_lawOf_59 wL_lawOf_60 wL_lawOf_75
    exact br_t rfl (br_t rfl (br_c (fun _ => rf_76e H) (fun _ => br_c (fun _ => rf_76e H) (fun _ => rf_76e H))))
  unfold wL_lawOf_22 wL_lawOf_23 wpX_push
  dsimp only
  refine br_c (fun _ => br_t rfl T) (fun g => br_f (fun g3 => ?_) (br_t rfl T))
  rcases h with h | h
  · exact g h
  · exact absurd g3 (Int32.not_le.mpr h)
theorem rf_law {post : Int32 → St0 → Prop} {p0 p1 p2 p3 p4 : Int32} (H : post 1 ()) : wpL_lawOf post 6 405 () p0 p1 p2 p3 p4 := by
  unfold wpL_lawOf
  refine ⟨by omega, by omega, 5, 397, by omega, by omega, ?_⟩
  unfold wpX_init
  dsimp only
  refine ⟨by omega, by omega, by omega, by omega, by omega, by omega, by omega, by omega, by omega, by omega, ?_⟩
  exact br_c (fun h => rf_22 (Or.inl h) H) (fun h => br_c (fun h3 => rf_22 (Or.inr h3) H) (fun h3 => rf_23 h h3 H))
theorem rf_cell {post : Int32 → Prop} {L : Nat} {xs : Nat → Int32} (hL : L ≤ 5) (k : Nat) (hk : k < 5) (H : ∀ r, post r) : wpL_cellAt post L xs () (nI k) :=
  pk_le L k (fun _ => H _) (fun z => ⟨pk_in k L z, H _⟩)
theorem i_vc (xs : Nat → Int32) (L : Nat) (hL : L ≤ 5) : wpL_law (fun r => r = 1) L xs := by
  unfold wpL_law
  exact rf_cell hL 0 (by omega) (fun r1 => rf_cell hL 1 (by omega) (fun r2 => rf_cell hL 2 (by omega) (fun r3 => rf_cell hL 3 (by omega) (fun r4 => rf_cell hL 4 (by omega) (fun r5 => ⟨6, 405, by omega, by omega, rf_law rfl⟩)))))
end
