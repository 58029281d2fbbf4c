section
/-! WordRanker with nothing stored: every slot is empty, so every layer has one node, no word is chosen -/
abbrev wr_Z : Nat → Int32 := fun _ => 0
abbrev wr_S (n : Nat) (fr nd : Int32) (la s0 s1 s2 k0 k1 gr : Nat → Int32) : St2 := (nI n, 0, 0, 170, fr, nd, wr_Z, wr_Z, wr_Z, wr_Z, wr_Z, wr_Z, wr_Z, wr_Z, wr_Z, wr_Z, wr_Z, wr_Z, wr_Z, la, s0, s1, s2, k0, k1, wr_Z, wr_Z, gr)
/-- the graph of the layers, built: layer d starts at node d, node k leads to node k + 1 -/
def wr_B (n : Nat) (la k0 k1 : Nat → Int32) : Prop := (∀ k, k ≤ n + 1 → la k = nI k) ∧ (∀ k, k < n → k0 k = nI (k + 1) ∧ k1 k = nI (k + 1))
def wr_I (n : Nat) (fr : Int32) (la k0 k1 : Nat → Int32) : Prop := fr = 0 ∨ (fr = 1 ∧ wr_B n la k0 k1)
/-- an answer v for an argument c in 0 .. m, else -1 -/
def wr_T (c m r v : Int32) : Prop := (c < 0 → r = -1) ∧ (m < c → r = -1) ∧ (¬ c < 0 → ¬ m < c → r = v)
theorem wr_Tn {c m v : Int32} (h : c < 0) : wr_T c m (-1) v := ⟨fun _ => rfl, fun _ => rfl, fun z => absurd h z⟩
theorem wr_Tm {c m v : Int32} (h : ¬ c ≤ m) : wr_T c m (-1) v := ⟨fun _ => rfl, fun _ => rfl, fun _ z => absurd (Int32.not_le.mp h) z⟩
theorem wr_Tv {c m v : Int32} (h : ¬ c < 0) (h2 : c ≤ m) : wr_T c m v v := ⟨fun z => absurd z h, fun z => absurd z (Int32.not_lt.mpr h2), fun _ _ => rfl⟩
theorem wr_uz (k : Nat) {x : Int32} (hx : x = 0) : upd wr_Z k x = wr_Z := by
  subst hx
  funext j
  exact ite_self (0 : Int32)
theorem wr_uc {f : Nat → Int32} {x : Int32} {m : Nat} (hm : m < 256) : upd f (nI m).toNatClampNeg x = upd f m x := by
  rw [nI_clamp (by omega)]
theorem wr_m1 (x : Int32) : x + (-1) = x - 1 := (Int32.sub_eq_add_neg x 1).symm
theorem wr_acc {post : Int32 → Prop} {n : Nat} {fr nd : Int32} {la s0 s1 s2 k0 k1 gr : Nat → Int32} (x p : Int32) (j : Nat) (hj : j < 3) (hp : p = nI j) (h : post 0) : wpX_accepts post (wr_S n fr nd la s0 s1 s2 k0 k1 gr) p x := by
  have k : wX_accepts_19 post p x (nI n) 0 0 170 fr nd wr_Z wr_Z wr_Z wr_Z wr_Z wr_Z wr_Z wr_Z wr_Z wr_Z wr_Z wr_Z wr_Z la s0 s1 s2 k0 k1 wr_Z wr_Z gr := ⟨pk_in j 3 hj hp, br_t Int32.and_zero h⟩
  exact br_c (fun _ => k) (fun _ => ⟨pk_in j 3 hj hp, br_t rfl k⟩)
theorem wr_cho {post : Int32 → Prop} {n : Nat} {fr nd : Int32} {la s0 s1 s2 k0 k1 gr : Nat → Int32} {a b c : Int32} (h : post 0) : wpX_chosen post (wr_S n fr nd la s0 s1 s2 k0 k1 gr) a b c := by
  have q2 : wX_chosen_30 post c 0 (nI n) 0 0 170 fr nd wr_Z wr_Z wr_Z wr_Z wr_Z wr_Z wr_Z wr_Z wr_Z wr_Z wr_Z wr_Z wr_Z la s0 s1 s2 k0 k1 wr_Z wr_Z gr := by
    unfold wX_chosen_30
    exact wr_acc c 2 2 (by decide) rfl (br_t rfl (br_f (by decide) h))
  have q1 : wX_chosen_15 post b c 0 (nI n) 0 0 170 fr nd wr_Z wr_Z wr_Z wr_Z wr_Z wr_Z wr_Z wr_Z wr_Z wr_Z wr_Z wr_Z wr_Z la s0 s1 s2 k0 k1 wr_Z wr_Z gr := by
    unfold wX_chosen_15
    exact wr_acc b 1 1 (by decide) rfl (br_t rfl q2)
  unfold wpX_chosen
  exact wr_acc a 0 0 (by decide) rfl (br_t rfl q1)
theorem wr_s22 {post : Int32 → Prop} {n : Nat} {fr nd : Int32} {la s0 s1 s2 k0 k1 gr : Nat → Int32} (x c p : Int32) (j : Nat) (hj : j < 3) (hp : p = nI j) (h : post 0) : ∃ f, wX_step_22 post p x c (nI n) 0 0 170 fr nd wr_Z wr_Z wr_Z wr_Z wr_Z wr_Z wr_Z wr_Z wr_Z wr_Z wr_Z wr_Z wr_Z la s0 s1 s2 k0 k1 wr_Z wr_Z gr f 0 0 :=
  pk_loop (σ := Unit) (fun f i _ => wX_step_22 post p x c (nI n) 0 0 170 fr nd wr_Z wr_Z wr_Z wr_Z wr_Z wr_Z wr_Z wr_Z wr_Z wr_Z wr_Z wr_Z wr_Z la s0 s1 s2 k0 k1 wr_Z wr_Z gr f 0 (nI i)) (fun _ _ => True) 12 0 () (by omega) trivial
    (fun f _ _ => pk_le 12 12 (fun _ => br_c (fun _ => ⟨pk_in j 3 hj hp, ek_v (P := post) Int32.and_zero h⟩) (fun _ => ⟨pk_in j 3 hj hp, ek_v (P := post) Int32.and_zero h⟩)) (fun z => absurd z (by omega)))
    (fun f i _ hi _ hw => pk_le 12 i (fun z => absurd z (by omega)) (fun _ => br_c (fun _ => ⟨pk_in (j * 12 + i) 36 (by omega) (by rw [hp, show (12 : Int32) = nI 12 from rfl, pk_mul, nI_add]), nm_r (e' := 0) Int32.or_zero (nm_r (nI_1 i) (hw () trivial))⟩) (fun _ => nm_r (nI_1 i) (hw () trivial))))
theorem wr_step {post : Int32 → Prop} {n : Nat} {fr nd : Int32} {la s0 s1 s2 k0 k1 gr : Nat → Int32} (x c p : Int32) (j : Nat) (hj : j < 3) (hp : p = nI j) (h : post 0) : wpX_step post (wr_S n fr nd la s0 s1 s2 k0 k1 gr) p x c :=
  br_c (fun _ => wr_s22 x c p j hj hp h) (fun _ => ⟨pk_in j 3 hj hp, nm_r (e' := 0) rfl (wr_s22 x c p j hj hp h)⟩)
theorem wr_node1 {post : Int32 → St2 → Prop} {n : Nat} {fr : Int32} {la s0 s1 s2 k0 k1 gr : Nat → Int32} (m : Nat) (hm : m < 256) (a b c : Int32) (h : post (nI m) (wr_S n fr (nI (m + 1)) la (upd s0 m a) (upd s1 m b) (upd s2 m c) k0 k1 gr)) : wpX_node post (wr_S n fr (nI m) la s0 s1 s2 k0 k1 gr) (nI m) a b c :=
  ⟨1, pk_le m m (fun _ => pk_le 256 m (fun z => absurd z (by omega)) (fun _ => ⟨pk_in m 256 hm, nm_r (wr_uc hm) ⟨pk_in m 256 hm, nm_r (wr_uc hm) ⟨pk_in m 256 hm, nm_r (wr_uc hm) (wr_cho ⟨pk_in m 256 hm, nm_r (wr_uz _ rfl) (nm_r (nI_1 m) h)⟩)⟩⟩⟩)) (fun z => absurd z (by omega))⟩
theorem wr_node2 {post : Int32 → St2 → Prop} {n : Nat} {fr : Int32} {la s0 s1 s2 k0 k1 gr : Nat → Int32} (m : Nat) (hm : m < 256) (a b c : Int32) (h : post (nI m) (wr_S n fr (nI (m + 1)) la (upd s0 m a) (upd s1 m b) (upd s2 m c) k0 k1 gr)) : wpX_node_2 post (wr_S n fr (nI m) la s0 s1 s2 k0 k1 gr) (nI m) a b c :=
  ⟨1, pk_le m m (fun _ => pk_le 256 m (fun z => absurd z (by omega)) (fun _ => ⟨pk_in m 256 hm, nm_r (wr_uc hm) ⟨pk_in m 256 hm, nm_r (wr_uc hm) ⟨pk_in m 256 hm, nm_r (wr_uc hm) (wr_cho ⟨pk_in m 256 hm, nm_r (wr_uz _ rfl) (nm_r (nI_1 m) h)⟩)⟩⟩⟩)) (fun z => absurd z (by omega))⟩
theorem wr_node3 {post : Int32 → St2 → Prop} {n : Nat} {fr : Int32} {la s0 s1 s2 k0 k1 gr : Nat → Int32} (m : Nat) (hm : m < 256) (a b c : Int32) (ha : s0 m = a) (hb : s1 m = b) (hc : s2 m = c) (h : post (nI m) (wr_S n fr (nI (m + 1)) la s0 s1 s2 k0 k1 gr)) : wpX_node_3 post (wr_S n fr (nI (m + 1)) la s0 s1 s2 k0 k1 gr) (nI m) a b c := by
  have e : (nI m).toNatClampNeg = m := nI_clamp (by omega)
  exact ⟨1, pk_le (m + 1) m (fun z => absurd z (by omega)) (fun _ => ⟨pk_in m 256 hm, br_t ((congrArg s0 e).trans ha) ⟨pk_in m 256 hm, br_t ((congrArg s1 e).trans hb) ⟨pk_in m 256 hm, br_t ((congrArg s2 e).trans hc) h⟩⟩⟩)⟩
theorem wr_child1 {post : Int32 → St2 → Prop} {n : Nat} {fr : Int32} {la s0 s1 s2 k0 k1 gr : Nat → Int32} (m i : Nat) (hm : m < 256) (hi : i < 256) (c : Int32) (h : post (nI m) (wr_S n fr (nI (m + 1)) la (upd s0 m 0) (upd s1 m 0) (upd s2 m 0) k0 k1 gr)) : wpX_child post (wr_S n fr (nI m) la s0 s1 s2 k0 k1 gr) (nI m) (nI i) c := by
  unfold wpX_child
  exact ⟨pk_in i 256 hi, wr_step _ c 0 0 (by decide) rfl ⟨pk_in i 256 hi, wr_step _ c 1 1 (by decide) rfl ⟨pk_in i 256 hi, wr_step _ c 2 2 (by decide) rfl (wr_node2 m hm 0 0 0 h)⟩⟩⟩
theorem wr_child2 {post : Int32 → St2 → Prop} {n : Nat} {fr : Int32} {la s0 s1 s2 k0 k1 gr : Nat → Int32} (m i : Nat) (hm : m < 256) (hi : i < 256) (c : Int32) (ha : s0 m = 0) (hb : s1 m = 0) (hc : s2 m = 0) (h : post (nI m) (wr_S n fr (nI (m + 1)) la s0 s1 s2 k0 k1 gr)) : wpX_child_2 post (wr_S n fr (nI (m + 1)) la s0 s1 s2 k0 k1 gr) (nI m) (nI i) c := by
  unfold wpX_child_2
  exact ⟨pk_in i 256 hi, wr_step _ c 0 0 (by decide) rfl ⟨pk_in i 256 hi, wr_step _ c 1 1 (by decide) rfl ⟨pk_in i 256 hi, wr_step _ c 2 2 (by decide) rfl (wr_node3 m hm 0 0 0 ha hb hc h)⟩⟩⟩
end
section
/-! build: one node a layer -/
theorem wr_b66 {post : St2 → Prop} {J : Int32 → Int32 → Int32 → Int32 → Int32 → Int32 → Int32 → (Nat → Int32) → (Nat → Int32) → (Nat → Int32) → (Nat → Int32) → (Nat → Int32) → (Nat → Int32) → (Nat → Int32) → (Nat → Int32) → (Nat → Int32) → (Nat → Int32) → (Nat → Int32) → (Nat → Int32) → (Nat → Int32) → (Nat → Int32) → (Nat → Int32) → (Nat → Int32) → (Nat → Int32) → (Nat → Int32) → (Nat → Int32) → (Nat → Int32) → (Nat → Int32) → (Nat → Int32) → Prop} {n : Nat} {fr : Int32} {la s0 s1 s2 k0 k1 gr : Nat → Int32} (d : Nat) (hd : d < 7)
    (h : J (nI (d + 1)) (nI n) 0 0 170 fr (nI (d + 2)) wr_Z wr_Z wr_Z wr_Z wr_Z wr_Z wr_Z wr_Z wr_Z wr_Z wr_Z wr_Z wr_Z la (upd s0 (d + 1) 0) (upd s1 (d + 1) 0) (upd s2 (d + 1) 0) (upd k0 d (nI (d + 1))) (upd k1 d (nI (d + 1))) wr_Z wr_Z gr) :
    wX_build_66 post J (nI d) (nI (d + 1)) 2 (nI d) (nI n) 0 0 170 fr (nI (d + 1)) wr_Z wr_Z wr_Z wr_Z wr_Z wr_Z wr_Z wr_Z wr_Z wr_Z wr_Z wr_Z wr_Z la s0 s1 s2 k0 k1 wr_Z wr_Z gr := by
  have h1 : wX_build_66 post J (nI d) (nI (d + 1)) 1 (nI (d + 1)) (nI n) 0 0 170 fr (nI (d + 2)) wr_Z wr_Z wr_Z wr_Z wr_Z wr_Z wr_Z wr_Z wr_Z wr_Z wr_Z wr_Z wr_Z la (upd s0 (d + 1) 0) (upd s1 (d + 1) 0) (upd s2 (d + 1) 0) (upd k0 d (nI (d + 1))) (upd k1 d (nI (d + 1))) wr_Z wr_Z gr :=
    pk_le (d + 1) (d + 1) (fun _ => nm_r (nI_1 d) h) (fun z => absurd z (by omega))
  exact pk_le (d + 1) d (fun z => absurd z (by omega)) (fun _ => wr_child1 (d + 1) d (by omega) (by omega) 0 ⟨pk_in d 256 (by omega), nm_r (wr_uc (by omega)) (wr_child2 (d + 1) d (by omega) (by omega) 1 pk_us pk_us pk_us ⟨pk_in d 256 (by omega), nm_r (wr_uc (by omega)) (nm_r (nI_1 d) h1)⟩)⟩)
theorem wr_b37 {post : St2 → Prop} {n : Nat} {gr : Nat → Int32} (hn : n ≤ 7) (H : ∀ nd la s0 s1 s2 k0 k1, wr_B n la k0 k1 → post (wr_S n 1 nd la s0 s1 s2 k0 k1 gr)) :
    ∀ (c d : Nat) (la s0 s1 s2 k0 k1 : Nat → Int32), d + c = n → (∀ k, k ≤ d → la k = nI k) → (∀ k, k < d → k0 k = nI (k + 1) ∧ k1 k = nI (k + 1)) → wX_build_37 post (c + 1) (nI d) (nI n) 0 0 170 0 (nI (d + 1)) wr_Z wr_Z wr_Z wr_Z wr_Z wr_Z wr_Z wr_Z wr_Z wr_Z wr_Z wr_Z wr_Z la s0 s1 s2 k0 k1 wr_Z wr_Z gr := by
  intro c
  induction c with
  | zero =>
    intro d la s0 s1 s2 k0 k1 e h1 h2
    have e' : d = n := by omega
    subst e'
    refine pk_le d d (fun _ => ⟨pk_in (d + 1) 10 (by omega) (nI_1 d), nm_r (e' := upd la (d + 1) (nI (d + 1))) (by rw [nI_1, nI_clamp (by omega)]) (H _ _ _ _ _ _ _ ⟨fun k hk => ?_, h2⟩)⟩) (fun z => absurd z (by omega))
    by_cases ek : k = d + 1
    · rw [ek, pk_us]
    · rw [pk_un ek]
      exact h1 k (by omega)
  | succ c ih =>
    intro d la s0 s1 s2 k0 k1 e h1 h2
    have F : ∀ k, k ≤ d + 1 → upd la (d + 1) (nI (d + 1)) k = nI k := by
      intro k hk
      by_cases ek : k = d + 1
      · rw [ek, pk_us]
      · rw [pk_un ek]
        exact h1 k (by omega)
    have G : ∀ k, k < d + 1 → upd k0 d (nI (d + 1)) k = nI (k + 1) ∧ upd k1 d (nI (d + 1)) k = nI (k + 1) := by
      intro k hk
      by_cases ek : k = d
      · rw [ek, pk_us, pk_us]
        exact ⟨rfl, rfl⟩
      · rw [pk_un ek, pk_un ek]
        exact h2 k (by omega)
    refine pk_le n d (fun z => absurd z (by omega)) (fun _ => ⟨pk_in (d + 1) 10 (by omega) (nI_1 d), nm_r (e' := upd la (d + 1) (nI (d + 1))) (by rw [nI_1, nI_clamp (by omega)]) ⟨pk_in d 10 (by omega), nm_r (e' := nI d) (by rw [nI_clamp (by omega)]; exact F d (by omega)) ⟨2, wr_b66 d (by omega) ?_⟩⟩⟩)
    exact ih (d + 1) _ _ _ _ _ _ (by omega) F G
theorem wr_build {post : St2 → Prop} {n : Nat} {fr nd : Int32} {la s0 s1 s2 k0 k1 gr : Nat → Int32} (hn : n ≤ 7) (hI : wr_I n fr la k0 k1) (H : ∀ nd la s0 s1 s2 k0 k1, wr_B n la k0 k1 → post (wr_S n 1 nd la s0 s1 s2 k0 k1 gr)) : wpX_build post (wr_S n fr nd la s0 s1 s2 k0 k1 gr) := by
  rcases hI with rfl | ⟨rfl, hB⟩
  · refine br_t rfl (nm_e ?_)
    refine wr_node1 0 (by omega) 4096 4096 4096 ⟨n + 1, ?_⟩
    exact wr_b37 hn H n 0 _ _ _ _ _ _ (by omega) (fun k hk => by rw [show k = 0 by omega, pk_us]; rfl) (fun k hk => absurd hk (by omega))
  · exact br_f (by decide) (H _ _ _ _ _ _ _ hB)
end
section
/-! fill: no way leads to a chosen word -/
theorem wr_f58 {post : St2 → Prop} {n : Nat} {fr nd : Int32} {la s0 s1 s2 k0 k1 gr : Nat → Int32} (hn : n ≤ 7) (hB : wr_B n la k0 k1) (h : post (wr_S n fr nd la s0 s1 s2 k0 k1 gr)) :
    ∀ e : Nat, e ≤ n → wX_fill_58 post (nI n) 0 0 170 fr nd (e + 1) (nI e - 1) wr_Z wr_Z wr_Z wr_Z wr_Z wr_Z wr_Z wr_Z wr_Z wr_Z wr_Z wr_Z wr_Z la s0 s1 s2 k0 k1 wr_Z wr_Z gr := by
  intro e
  induction e with
  | zero => exact fun _ => br_t (by decide) h
  | succ e ih =>
    intro he
    have c : (nI e).toNatClampNeg = e := nI_clamp (by omega)
    have h0 : k0 (nI e).toNatClampNeg = nI (e + 1) := (congrArg k0 c).trans (hB.2 e (by omega)).1
    have h1 : k1 (nI e).toNatClampNeg = nI (e + 1) := (congrArg k1 c).trans (hB.2 e (by omega)).2
    rw [nI_pred]
    exact br_f (nI_pos (by omega)) ⟨pk_in e 256 (by omega), pk_in (e + 1) 256 (by omega) h0, pk_in e 256 (by omega), pk_in (e + 1) 256 (by omega) h1, pk_in e 256 (by omega), nm_r (wr_uz _ (Int32.add_zero 0)) (nm_r (wr_m1 (nI e)) (ih (by omega)))⟩
theorem wr_f11 {post : St2 → Prop} {n : Nat} {fr nd : Int32} {la s0 s1 s2 k0 k1 gr : Nat → Int32} {l : Nat} (hn : n ≤ 7) (hl : l ≤ n) (hB : wr_B n la k0 k1) (h : post (wr_S n fr nd la s0 s1 s2 k0 k1 gr)) :
    wX_fill_11 post (nI l) (nI n) 0 0 170 fr nd 2 (nI l) wr_Z wr_Z wr_Z wr_Z wr_Z wr_Z wr_Z wr_Z wr_Z wr_Z wr_Z wr_Z wr_Z la s0 s1 s2 k0 k1 wr_Z wr_Z gr := by
  have c : (nI l).toNatClampNeg = l := nI_clamp (by omega)
  have c1 : (nI l + 1).toNatClampNeg = l + 1 := by rw [nI_1, nI_clamp (by omega)]
  have e0 : la (nI l).toNatClampNeg = nI l := (congrArg la c).trans (hB.1 l (by omega))
  have e1 : la (nI l + 1).toNatClampNeg = nI (l + 1) := (congrArg la c1).trans (hB.1 (l + 1) (by omega))
  have k : wX_fill_11 post (nI l) (nI n) 0 0 170 fr nd 1 (nI (l + 1)) wr_Z wr_Z wr_Z wr_Z wr_Z wr_Z wr_Z wr_Z wr_Z wr_Z wr_Z wr_Z wr_Z la s0 s1 s2 k0 k1 wr_Z wr_Z gr :=
    ⟨pk_in (l + 1) 10 (by omega) (nI_1 l), pk_le (l + 1) (l + 1) (fun _ => ⟨pk_in l 10 (by omega), nm_r (e' := nI l - 1) (by rw [e0]) ⟨l + 1, wr_f58 hn hB h l hl⟩⟩) (fun z => absurd z (by omega)) e1⟩
  exact ⟨pk_in (l + 1) 10 (by omega) (nI_1 l), pk_le (l + 1) l (fun z => absurd z (by omega)) (fun _ => ⟨pk_in l 256 (by omega), br_t rfl ⟨pk_in l 256 (by omega), nm_r (wr_uz _ rfl) (nm_r (nI_1 l) k)⟩⟩) e1⟩
theorem wr_fill {post : St2 → Prop} {n : Nat} {fr nd : Int32} {la s0 s1 s2 k0 k1 gr : Nat → Int32} {l : Nat} (hn : n ≤ 7) (hl : l ≤ n) (hI : wr_I n fr la k0 k1) (H : ∀ nd la s0 s1 s2 k0 k1, wr_B n la k0 k1 → post (wr_S n 1 nd la s0 s1 s2 k0 k1 gr)) : wpX_fill post (wr_S n fr nd la s0 s1 s2 k0 k1 gr) (nI l) := by
  unfold wpX_fill
  refine wr_build hn hI (fun nd la s0 s1 s2 k0 k1 hB => ⟨pk_in l 10 (by omega), nm_r (e' := nI l) ?_ ⟨2, wr_f11 hn hl hB (H nd la s0 s1 s2 k0 k1 hB)⟩⟩)
  rw [nI_clamp (by omega)]
  exact hB.1 l (by omega)
theorem wr_len {n : Nat} {b : Int32} (hn : n ≤ 7) (a : ¬ b < 0) (c : b ≤ nI n) : ∃ l : Nat, l ≤ n ∧ b = nI l := nI_of2 (nI_toInt (by omega)) a c
theorem wr_count {post : Int32 → St2 → Prop} {n : Nat} {fr nd : Int32} {la s0 s1 s2 k0 k1 gr : Nat → Int32} (b : Int32) (hn : n ≤ 7) (hI : wr_I n fr la k0 k1) (H : ∀ r fr nd la s0 s1 s2 k0 k1, wr_T b (nI n) r 0 → wr_I n fr la k0 k1 → post r (wr_S n fr nd la s0 s1 s2 k0 k1 gr)) : wpX_count post (wr_S n fr nd la s0 s1 s2 k0 k1 gr) b := by
  refine br_c (fun a => H _ _ _ _ _ _ _ _ _ (wr_Tn a) hI) (fun a => br_c (fun c => ?_) (fun c => H _ _ _ _ _ _ _ _ _ (wr_Tm c) hI))
  obtain ⟨l, hl, e⟩ := wr_len hn a c
  have t : wr_T b (nI n) 0 0 := wr_Tv a c
  subst e
  exact wr_fill hn hl hI (fun nd la s0 s1 s2 k0 k1 hB => H 0 1 nd la s0 s1 s2 k0 k1 t (Or.inr ⟨rfl, hB⟩))
/-! groups: one node a layer is one group a layer -/
theorem wr_part {post : St2 → Prop} {n : Nat} {fr nd : Int32} {la s0 s1 s2 k0 k1 gr : Nat → Int32} {d : Nat} (hn : n ≤ 7) (hd : d ≤ n) (hB : wr_B n la k0 k1) (h : post (wr_S n fr nd la s0 s1 s2 k0 k1 (upd gr d (nI d)))) : wpX_partLayer post (wr_S n fr nd la s0 s1 s2 k0 k1 gr) (nI d) := by
  have c : (nI d).toNatClampNeg = d := nI_clamp (by omega)
  have c1 : (nI d + 1).toNatClampNeg = d + 1 := by rw [nI_1, nI_clamp (by omega)]
  have e0 : la (nI d).toNatClampNeg = nI d := (congrArg la c).trans (hB.1 d (by omega))
  have e1 : la (nI d + 1).toNatClampNeg = nI (d + 1) := (congrArg la c1).trans (hB.1 (d + 1) (by omega))
  have lt : nI d - 1 < nI d := by
    cases d with
    | zero => decide
    | succ d => rw [nI_pred]; exact nI_lt (by omega) (by omega)
  have k : ∀ x3 : Int32, wX_partLayer_24 post (nI d) (nI d) x3 (nI n) 0 0 170 fr nd 2 (nI d) wr_Z wr_Z wr_Z wr_Z wr_Z wr_Z wr_Z wr_Z wr_Z wr_Z wr_Z wr_Z wr_Z la s0 s1 s2 k0 k1 wr_Z wr_Z gr := by
    intro x3
    have k1' : wX_partLayer_24 post (nI d) (nI d) x3 (nI n) 0 0 170 fr nd 1 (nI (d + 1)) wr_Z wr_Z wr_Z wr_Z wr_Z wr_Z wr_Z wr_Z wr_Z wr_Z wr_Z wr_Z wr_Z la s0 s1 s2 k0 k1 wr_Z wr_Z (upd gr d (nI d)) :=
      ⟨pk_in (d + 1) 10 (by omega) (nI_1 d), pk_le (d + 1) (d + 1) (fun _ => h) (fun z => absurd z (by omega)) e1⟩
    exact ⟨pk_in (d + 1) 10 (by omega) (nI_1 d), pk_le (d + 1) d (fun z => absurd z (by omega)) (fun _ => ⟨pk_in d 256 (by omega), nm_r (wr_uc (by omega)) (nm_e ⟨1, br_t lt (nm_r (nI_1 d) k1')⟩)⟩) e1⟩
  exact ⟨pk_in d 10 (by omega), nm_r e0 (br_c (fun _ => ⟨2, k 1⟩) (fun _ => ⟨2, k 0⟩))⟩
theorem wr_g48 {post : Int32 → St2 → Prop} {n : Nat} {fr nd : Int32} {la s0 s1 s2 k0 k1 gr : Nat → Int32} {l : Nat} (hn : n ≤ 7) (hl : l ≤ n) (hB : wr_B n la k0 k1) (hg : gr l = nI l) (h : post 1 (wr_S n fr nd la s0 s1 s2 k0 k1 gr)) :
    wX_groups_48 post (nI l) (nI n) 0 0 170 fr nd wr_Z wr_Z wr_Z wr_Z wr_Z wr_Z wr_Z wr_Z wr_Z wr_Z wr_Z wr_Z wr_Z la s0 s1 s2 k0 k1 wr_Z wr_Z gr 2 0 (nI l) := by
  have c : (nI l).toNatClampNeg = l := nI_clamp (by omega)
  have c1 : (nI l + 1).toNatClampNeg = l + 1 := by rw [nI_1, nI_clamp (by omega)]
  have e1 : la (nI l + 1).toNatClampNeg = nI (l + 1) := (congrArg la c1).trans (hB.1 (l + 1) (by omega))
  have k : wX_groups_48 post (nI l) (nI n) 0 0 170 fr nd wr_Z wr_Z wr_Z wr_Z wr_Z wr_Z wr_Z wr_Z wr_Z wr_Z wr_Z wr_Z wr_Z la s0 s1 s2 k0 k1 wr_Z wr_Z gr 1 1 (nI (l + 1)) :=
    ⟨pk_in (l + 1) 10 (by omega) (nI_1 l), pk_le (l + 1) (l + 1) (fun _ => h) (fun z => absurd z (by omega)) e1⟩
  exact ⟨pk_in (l + 1) 10 (by omega) (nI_1 l), pk_le (l + 1) l (fun z => absurd z (by omega)) (fun _ => ⟨pk_in l 256 (by omega), br_t ((congrArg gr c).trans hg) (nm_r (e' := 1) (by decide) (nm_r (nI_1 l) k))⟩) e1⟩
theorem wr_g23 {post : Int32 → St2 → Prop} {n : Nat} {fr nd : Int32} {la s0 s1 s2 k0 k1 : Nat → Int32} {l : Nat} (hn : n ≤ 7) (hl : l ≤ n) (hB : wr_B n la k0 k1) (h : ∀ gr, post 1 (wr_S n fr nd la s0 s1 s2 k0 k1 gr)) :
    ∀ (c : Nat) (gr : Nat → Int32), l + c ≤ n + 1 → (0 < c ∨ gr l = nI l) → wX_groups_23 post (nI l) (c + 1) (nI (l + c) - 1) (nI n) 0 0 170 fr nd wr_Z wr_Z wr_Z wr_Z wr_Z wr_Z wr_Z wr_Z wr_Z wr_Z wr_Z wr_Z wr_Z la s0 s1 s2 k0 k1 wr_Z wr_Z gr := by
  intro c
  induction c with
  | zero =>
    intro gr _ hg
    have hg' : gr l = nI l := by
      rcases hg with z | z
      · omega
      · exact z
    have lt : nI (l + 0) - 1 < nI l := by
      cases l with
      | zero => decide
      | succ l => rw [Nat.add_zero, nI_pred]; exact nI_lt (by omega) (by omega)
    exact br_t lt ⟨pk_in l 10 (by omega), nm_r (e' := nI l) (by rw [nI_clamp (by omega)]; exact hB.1 l (by omega)) ⟨2, wr_g48 hn hl hB hg' (h gr)⟩⟩
  | succ c ih =>
    intro gr hc _
    rw [show l + (c + 1) = l + c + 1 from rfl, nI_pred]
    refine br_f (nI_nlt (by omega) (by omega)) (wr_part hn (by omega) hB (nm_r (wr_m1 _) (ih _ (by omega) ?_)))
    cases c with
    | zero => exact Or.inr pk_us
    | succ c => exact Or.inl (by omega)
theorem wr_groups {post : Int32 → St2 → Prop} {n : Nat} {fr nd : Int32} {la s0 s1 s2 k0 k1 gr : Nat → Int32} (b : Int32) (hn : n ≤ 7) (hI : wr_I n fr la k0 k1) (H : ∀ r fr nd la s0 s1 s2 k0 k1 gr, wr_T b (nI n) r 1 → wr_I n fr la k0 k1 → post r (wr_S n fr nd la s0 s1 s2 k0 k1 gr)) : wpX_groups post (wr_S n fr nd la s0 s1 s2 k0 k1 gr) b := by
  refine br_c (fun a => H _ _ _ _ _ _ _ _ _ _ (wr_Tn a) hI) (fun a => br_c (fun c => ?_) (fun c => H _ _ _ _ _ _ _ _ _ _ (wr_Tm c) hI))
  obtain ⟨l, hl, e⟩ := wr_len hn a c
  have t : wr_T b (nI n) 1 1 := wr_Tv a c
  subst e
  refine wr_build hn hI (fun nd la s0 s1 s2 k0 k1 hB => ⟨n + 1 - l + 1, ?_⟩)
  have k := wr_g23 (post := post) (fr := 1) (nd := nd) (s0 := s0) (s1 := s1) (s2 := s2) hn hl hB (fun gr => H 1 1 nd la s0 s1 s2 k0 k1 gr t (Or.inr ⟨rfl, hB⟩)) (n + 1 - l) gr (by omega) (Or.inl (by omega))
  rw [show l + (n + 1 - l) = n + 1 by omega, nI_pred] at k
  exact k
/-! isChosen -/
def wr_M (n : Nat) (c d r : Int32) : Prop := (c < 0 → r = -1) ∧ (nI n < c → r = -1) ∧ (d < 0 → r = -1) ∧ ((1 : Int32) <<< ((c &&& 7) &&& 31) ≤ d → r = -1) ∧ (¬ c < 0 → ¬ nI n < c → ¬ d < 0 → ¬ (1 : Int32) <<< ((c &&& 7) &&& 31) ≤ d → r = 0)
theorem wr_low7 : ∀ l, l < 8 → nI l &&& 7 = nI l := by decide +kernel
theorem wr_w11 {post : Int32 → St2 → Prop} {n : Nat} {fr nd : Int32} {la s0 s1 s2 k0 k1 gr : Nat → Int32} {l : Nat} (x : Int32) (hn : n ≤ 7) (hl : l ≤ n) (hB : wr_B n la k0 k1) (h : post (nI l) (wr_S n fr nd la s0 s1 s2 k0 k1 gr)) :
    ∀ (e a : Nat), a + e = l → wX_walk_11 post x (nI n) 0 0 170 fr nd wr_Z wr_Z wr_Z wr_Z wr_Z wr_Z wr_Z wr_Z wr_Z wr_Z wr_Z wr_Z wr_Z la s0 s1 s2 k0 k1 wr_Z wr_Z gr (e + 1) (nI a) (nI e - 1) := by
  intro e
  induction e with
  | zero =>
    intro a ha
    have ea : a = l := by omega
    subst ea
    exact br_t (by decide) h
  | succ e ih =>
    intro a ha
    have c : (nI a).toNatClampNeg = a := nI_clamp (by omega)
    have h0 : k0 (nI a).toNatClampNeg = nI (a + 1) := (congrArg k0 c).trans (hB.2 a (by omega)).1
    have h1 : k1 (nI a).toNatClampNeg = nI (a + 1) := (congrArg k1 c).trans (hB.2 a (by omega)).2
    rw [nI_pred]
    exact br_f (nI_pos (by omega)) (br_c (fun _ => ⟨pk_in a 256 (by omega), nm_r h1 (nm_r (wr_m1 _) (ih (a + 1) (by omega)))⟩) (fun _ => ⟨pk_in a 256 (by omega), nm_r h0 (nm_r (wr_m1 _) (ih (a + 1) (by omega)))⟩))
theorem wr_isC {post : Int32 → St2 → Prop} {n : Nat} {fr nd : Int32} {la s0 s1 s2 k0 k1 gr : Nat → Int32} (b d : Int32) (hn : n ≤ 7) (hI : wr_I n fr la k0 k1) (H : ∀ r fr nd la s0 s1 s2 k0 k1, wr_M n b d r → wr_I n fr la k0 k1 → post r (wr_S n fr nd la s0 s1 s2 k0 k1 gr)) : wpX_isChosen post (wr_S n fr nd la s0 s1 s2 k0 k1 gr) b d := by
  have H0 : wr_M n b d (-1) → post (-1) (wr_S n fr nd la s0 s1 s2 k0 k1 gr) := fun m => H _ _ _ _ _ _ _ _ _ m hI
  unfold wpX_isChosen
  refine br_c (fun a => br_t rfl (H0 ⟨fun _ => rfl, fun _ => rfl, fun _ => rfl, fun _ => rfl, fun z => absurd a z⟩)) (fun a => br_c (fun c => br_t rfl (H0 ⟨fun _ => rfl, fun _ => rfl, fun _ => rfl, fun _ => rfl, fun _ z => absurd c z⟩)) (fun c => br_c (fun g => ?_) (fun g => br_t rfl (H0 ⟨fun _ => rfl, fun _ => rfl, fun _ => rfl, fun _ => rfl, fun _ _ z => absurd (Int32.not_lt.mp z) g⟩))))
  obtain ⟨l, hl, e⟩ := wr_len hn a (Int32.not_lt.mp c)
  have e7 : b &&& 7 = b := by rw [e]; exact wr_low7 l (by omega)
  refine br_c (fun k => br_t rfl (H0 ⟨fun _ => rfl, fun _ => rfl, fun _ => rfl, fun _ => rfl, fun _ _ _ z => absurd (by rw [e7]; exact k) z⟩)) (fun k => br_f (by decide) ?_)
  have m : wr_M n b d 0 := ⟨fun z => absurd z a, fun z => absurd z c, fun z => absurd z (Int32.not_lt.mpr g), fun z => absurd (by rw [e7] at z; exact z) k, fun _ _ _ _ => rfl⟩
  subst e
  unfold wpX_walk
  refine wr_build hn hI (fun nd la s0 s1 s2 k0 k1 hB => nm_e ⟨l + 1, ?_⟩)
  exact wr_w11 d hn hl hB ⟨pk_in l 256 (by omega), br_t rfl (H 0 1 nd la s0 s1 s2 k0 k1 m (Or.inr ⟨rfl, hB⟩))⟩ l 0 (by omega)
/-! wordLen, store, choose -/
theorem wr_wl10 {post : Int32 → St2 → Prop} {n : Nat} {gr : Nat → Int32} {x : Int32} (hn : n ≤ 7) (hx : 0 ≤ x) (H : ∀ fr nd la s0 s1 s2 k0 k1, wr_I n fr la k0 k1 → post (-1) (wr_S n fr nd la s0 s1 s2 k0 k1 gr)) :
    ∀ (c l : Nat) (fr nd : Int32) (la s0 s1 s2 k0 k1 : Nat → Int32), l + c = n + 1 → wr_I n fr la k0 k1 → wX_wordLen_10 post (c + 1) x (nI l) (nI n) 0 0 170 fr nd wr_Z wr_Z wr_Z wr_Z wr_Z wr_Z wr_Z wr_Z wr_Z wr_Z wr_Z wr_Z wr_Z la s0 s1 s2 k0 k1 wr_Z wr_Z gr := by
  intro c
  induction c with
  | zero =>
    intro l fr nd la s0 s1 s2 k0 k1 e hI
    exact br_t (nI_lt (by omega) (by omega)) (H _ _ _ _ _ _ _ _ hI)
  | succ c ih =>
    intro l fr nd la s0 s1 s2 k0 k1 e hI
    refine br_f (nI_nlt (by omega) (by omega)) (wr_fill hn (by omega) hI (fun nd la s0 s1 s2 k0 k1 hB => br_t hx (nm_r (Int32.sub_zero x) (nm_r (nI_1 l) ?_))))
    exact ih (l + 1) _ _ _ _ _ _ _ _ (by omega) (Or.inr ⟨rfl, hB⟩)
theorem wr_wordLen {post : Int32 → St2 → Prop} {n : Nat} {fr nd : Int32} {la s0 s1 s2 k0 k1 gr : Nat → Int32} (x : Int32) (hn : n ≤ 7) (hI : wr_I n fr la k0 k1) (H : ∀ fr nd la s0 s1 s2 k0 k1, wr_I n fr la k0 k1 → post (-1) (wr_S n fr nd la s0 s1 s2 k0 k1 gr)) : wpX_wordLen post (wr_S n fr nd la s0 s1 s2 k0 k1 gr) x :=
  br_c (fun a => ⟨n + 1 + 1, wr_wl10 hn a H (n + 1) 0 _ _ _ _ _ _ _ _ (by omega) hI⟩) (fun _ => H _ _ _ _ _ _ _ _ hI)
theorem wr_store {post : Int32 → St2 → Prop} {n : Nat} {fr nd : Int32} {la s0 s1 s2 k0 k1 gr : Nat → Int32} (b : Int32) (H : ∀ r, wr_T b 2 r (-3) → post r (wr_S n fr nd la s0 s1 s2 k0 k1 gr)) : wpX_store post (wr_S n fr nd la s0 s1 s2 k0 k1 gr) b :=
  br_c (fun a => H _ (wr_Tn a)) (fun a => br_c (fun c => br_f (by decide) (H _ (wr_Tv a c))) (fun c => H _ (wr_Tm c)))
theorem wr_choose {post : Int32 → St2 → Prop} {n : Nat} {fr nd : Int32} {la s0 s1 s2 k0 k1 gr : Nat → Int32} (b : Int32) (H : ∀ r u, wr_T b 255 r 170 → post r u) : wpX_choose post (wr_S n fr nd la s0 s1 s2 k0 k1 gr) b :=
  br_c (fun a => H _ _ (wr_Tn a)) (fun a => br_c (fun c => H _ _ (wr_Tv a c)) (fun c => H _ _ (wr_Tm c)))
end
section
/-! the constructor -/
abbrev wr_Q (x : Int32) : St2 := (x, 0, 0, 170, 0, 0, wr_Z, wr_Z, wr_Z, wr_Z, wr_Z, wr_Z, wr_Z, wr_Z, wr_Z, wr_Z, wr_Z, wr_Z, wr_Z, wr_Z, wr_Z, wr_Z, wr_Z, wr_Z, wr_Z, wr_Z, wr_Z, wr_Z)
theorem wr_init {post : St2 → Prop} {n : Nat} (x : Int32) (hA : 1 ≤ x → x ≤ 7 → x = nI n) (hB : 1 ≤ x → ¬ x ≤ 7 → (7 : Int32) = nI n) (hC : ¬ 1 ≤ x → (1 : Int32) = nI n) (H : post (wr_Q (nI n))) : wpX_init post 22 2177 (0, 0, 0, 0, 0, 0) x :=
  ⟨by decide, by decide, by decide, by decide, by decide, by decide, by decide, by decide, by decide, by decide, by decide, by decide, by decide, by decide, by decide, by decide, by decide, by decide, by decide, by decide, by decide, by decide, by decide, by decide, by decide, by decide, by decide, by decide, by decide, by decide, by decide, by decide, by decide, by decide, by decide, by decide, by decide, by decide, by decide, by decide, by decide, by decide, by decide, by decide, br_c (fun a => br_c (fun b => ek_v (P := fun y => post (wr_Q y)) (hA a b) H) (fun b => ek_v (P := fun y => post (wr_Q y)) (hB a b) H)) (fun a => br_t (by decide) (ek_v (P := fun y => post (wr_Q y)) (hC a) H))⟩
/-! the law's checks, from the last to the first -/
section
variable {post : Int32 → St0 → Prop} {mc ms kc ks n : Nat} {x1 x2 x3 x4 x6 x7 x8 x9 x10 x11 x12 x13 z0 z1 : Int32}
theorem wr_198 (h : z1 = z0) (t11 : wr_T x1 255 x11 170) (hp : post 1 ()) : wL_lawOf_198 post mc ms x1 x11 z0 z1 kc ks :=
  br_t h (br_c (fun a => br_t (t11.1 a) hp) (fun a => br_c (fun b => br_t (t11.2.1 b) hp) (fun b => br_t (t11.2.2 a b) hp)))
theorem wr_172 (h : z1 = z0) (h9 : x9 = -1) (t10 : wr_T x2 2 x10 (-3)) (t11 : wr_T x1 255 x11 170) (hp : post 1 ()) : wL_lawOf_172 post mc ms x1 x2 x9 x10 x11 z0 z1 kc ks :=
  br_t h (br_t h9 (br_c (fun a => wr_198 (t10.1 a) t11 hp) (fun a => br_c (fun b => wr_198 (t10.2.1 b) t11 hp) (fun b => wr_198 (t10.2.2 a b) t11 hp))))
theorem wr_142 (h : z1 = z0) (h7 : (x12 = 0 → x7 = -1) ∧ (¬ x12 = 0 → x7 = 1)) (h8 : (x13 = 0 → x8 = -1) ∧ (¬ x13 = 0 → x8 = 0)) (h9 : x9 = -1) (t10 : wr_T x2 2 x10 (-3)) (t11 : wr_T x1 255 x11 170) (hp : post 1 ()) : wL_lawOf_142 post mc ms x1 x2 x7 x8 x9 x10 x11 x12 x13 z0 z1 kc ks := by
  have K : ∀ z, x7 = z → wL_lawOf_157 post mc ms x1 x2 x8 x9 x10 x11 x13 z x7 kc ks := fun z e =>
    br_t e (br_c (fun a => wr_172 (h8.1 a) h9 t10 t11 hp) (fun a => wr_172 (h8.2 a) h9 t10 t11 hp))
  exact br_t h (br_c (fun a => K _ (h7.1 a)) (fun a => K _ (h7.2 a)))
theorem wr_123 (t6 : wr_T x1 x4 x6 0) (h7 : (x12 = 0 → x7 = -1) ∧ (¬ x12 = 0 → x7 = 1)) (h8 : (x13 = 0 → x8 = -1) ∧ (¬ x13 = 0 → x8 = 0)) (h9 : x9 = -1) (t10 : wr_T x2 2 x10 (-3)) (t11 : wr_T x1 255 x11 170) (hp : post 1 ()) : wL_lawOf_123 post mc ms x1 x2 x4 x6 x7 x8 x9 x10 x11 x12 x13 kc ks :=
  br_c (fun a => wr_142 (t6.1 a) h7 h8 h9 t10 t11 hp) (fun a => br_c (fun b => wr_142 (t6.2.1 b) h7 h8 h9 t10 t11 hp) (fun b => wr_142 (t6.2.2 a b) h7 h8 h9 t10 t11 hp))
theorem wr_96 (t6 : wr_T x1 x4 x6 0) (h7 : x7 = -1) (h8 : x8 = -1) (h9 : x9 = -1) (t10 : wr_T x2 2 x10 (-3)) (t11 : wr_T x1 255 x11 170) (hp : post 1 ()) : wL_lawOf_96 post mc ms x1 x2 x3 x4 x6 x7 x8 x9 x10 x11 kc ks :=
  br_t rfl (wr_123 t6 ⟨fun _ => h7, fun z => absurd rfl z⟩ ⟨fun _ => h8, fun z => absurd rfl z⟩ h9 t10 t11 hp)
theorem wr_97 (t6 : wr_T x1 x4 x6 0) (h7 : x7 = 1) (h8 : (x3 < 0 → x8 = -1) ∧ ((1 : Int32) <<< ((x2 &&& 7) &&& 31) ≤ x3 → x8 = -1) ∧ (¬ x3 < 0 → ¬ (1 : Int32) <<< ((x2 &&& 7) &&& 31) ≤ x3 → x8 = 0)) (h9 : x9 = -1) (t10 : wr_T x2 2 x10 (-3)) (t11 : wr_T x1 255 x11 170) (hp : post 1 ()) : wL_lawOf_97 post mc ms x1 x2 x3 x4 x6 x7 x8 x9 x10 x11 1 kc ks := by
  have g7 : ((1 : Int32) = 0 → x7 = -1) ∧ (¬ (1 : Int32) = 0 → x7 = 1) := ⟨fun z => absurd z (by decide), fun _ => h7⟩
  have g8 : ∀ e : x8 = -1, ((0 : Int32) = 0 → x8 = -1) ∧ (¬ (0 : Int32) = 0 → x8 = 0) := fun e => ⟨fun _ => e, fun z => absurd rfl z⟩
  exact br_f (by decide) (br_c (fun a => wr_123 t6 g7 (g8 (h8.1 a)) h9 t10 t11 hp) (fun a => br_c (fun b => wr_123 t6 g7 (g8 (h8.2.1 b)) h9 t10 t11 hp) (fun b => wr_123 t6 g7 ⟨fun z => absurd z (by decide), fun _ => h8.2.2 a b⟩ h9 t10 t11 hp)))
theorem wr_end (t6 : wr_T x1 (nI n) x6 0) (t7 : wr_T x2 (nI n) x7 1) (m8 : wr_M n x2 x3 x8) (h9 : x9 = -1) (t10 : wr_T x2 2 x10 (-3)) (t11 : wr_T x1 255 x11 170) (hp : post 1 ()) :
    (x2 < 0 → wL_lawOf_96 post mc ms x1 x2 x3 (nI n) x6 x7 x8 x9 x10 x11 kc ks) ∧ (¬ x2 < 0 → (nI n < x2 → wL_lawOf_96 post mc ms x1 x2 x3 (nI n) x6 x7 x8 x9 x10 x11 kc ks) ∧ (¬ nI n < x2 → wL_lawOf_97 post mc ms x1 x2 x3 (nI n) x6 x7 x8 x9 x10 x11 1 kc ks)) :=
  br_c (fun a => wr_96 t6 (t7.1 a) (m8.1 a) h9 t10 t11 hp) (fun a => br_c (fun b => wr_96 t6 (t7.2.1 b) (m8.2.1 b) h9 t10 t11 hp) (fun b => wr_97 t6 (t7.2.2 a b) ⟨m8.2.2.1, m8.2.2.2.1, m8.2.2.2.2 a b⟩ h9 t10 t11 hp))
end
theorem wr_21 {post : Int32 → St0 → Prop} {n : Nat} {z : Int32} (x0 x1 x2 x3 : Int32) (hn : n ≤ 7) (hz : z = nI n) (hA : 1 ≤ x0 → x0 ≤ 7 → x0 = nI n) (hB : 1 ≤ x0 → ¬ x0 ≤ 7 → (7 : Int32) = nI n) (hC : ¬ 1 ≤ x0 → (1 : Int32) = nI n) (hp : post 1 ()) : wL_lawOf_21 post 1052 16816 x0 x1 x2 x3 z 0 0 := by
  subst hz
  unfold wL_lawOf_21
  refine ⟨by decide, by decide, 22, 2177, by decide, by decide, wr_init x0 hA hB hC ?_⟩
  refine wr_count x1 hn (Or.inl rfl) (fun r6 fr nd la s0 s1 s2 k0 k1 t6 hI => ?_)
  refine wr_groups x2 hn hI (fun r7 fr nd la s0 s1 s2 k0 k1 gr t7 hI => ?_)
  refine wr_isC x2 x3 hn hI (fun r8 fr nd la s0 s1 s2 k0 k1 m8 hI => ?_)
  refine wr_wordLen x3 hn hI (fun fr nd la s0 s1 s2 k0 k1 hI => ?_)
  refine wr_store x2 (fun r10 t10 => ?_)
  refine wr_choose x1 (fun r11 u t11 => ?_)
  exact wr_end t6 t7 m8 rfl t10 t11 hp
theorem wr_lawOf {post : Int32 → St0 → Prop} (x0 x1 x2 x3 : Int32) (hp : post 1 ()) : wpL_lawOf post 1052 16816 () x0 x1 x2 x3 := by
  refine br_c (fun a => br_c (fun b => ?_) (fun b => ?_)) (fun a => ?_)
  · obtain ⟨n, hn, e⟩ := nI_of2 (x := x0) (M := 7) (n := 7) (by decide) (fun z => absurd (Int32.lt_of_le_of_lt a z) (by decide)) b
    exact wr_21 x0 x1 x2 x3 hn e (fun _ _ => e) (fun _ z => absurd b z) (fun z => absurd a z) hp
  · exact wr_21 (n := 7) x0 x1 x2 x3 (by omega) rfl (fun _ z => absurd z b) (fun _ _ => rfl) (fun z => absurd a z) hp
  · exact wr_21 (n := 1) x0 x1 x2 x3 (by omega) rfl (fun z => absurd z a) (fun z => absurd z a) (fun _ => rfl) hp
theorem wr_cell {post : Int32 → Prop} {L : Nat} {xs : Nat → Int32} {p : Int32} (i : Nat) (hL : L ≤ 4) (hi : i < 4) (hp : p = nI i) (H : ∀ r, post r) : wpL_cellAt post L xs () p :=
  pk_le L i (fun _ => H _) (fun z => ⟨pk_in i L z hp, H _⟩) rfl hp
theorem i_vc (xs : Nat → Int32) (L : Nat) (hL : L ≤ 4) : wpL_law (fun r => r = 1) L xs := by
  unfold wpL_law
  exact wr_cell 0 hL (by omega) rfl (fun a => wr_cell 1 hL (by omega) rfl (fun b => wr_cell 2 hL (by omega) rfl (fun c => wr_cell 3 hL (by omega) rfl (fun d => ⟨1052, 16816, by decide, by decide, wr_lawOf a b c d rfl⟩))))
end
