section
/-! BasicStrings: the methods that the law calls, a lemma a method, the post general -/
/-- the sum of the first n of f -/
def bs_sum (f : Nat → Nat) : Nat → Nat
  | 0 => 0
  | n + 1 => bs_sum f n + f n
/-- an array of noughts -/
def bs_z : Nat → Int32 := fun _ => 0
theorem bs_6 (p : Nat) : (6 : Int32) + nI p = nI (6 + p) := nI_add 6 p
theorem bs_top (p : Nat) : (6 : Int32) + nI (p + 1) - 1 = nI (6 + p) := by
  rw [bs_6]
  exact nI_pred (6 + p)
theorem bs_nle {a b : Int32} (h : a < b) : ¬ b ≤ a := by
  rw [Int32.lt_iff_toInt_lt] at h
  rw [Int32.le_iff_toInt_le]
  omega
/-- an int is outside 0 .. n, or one of them -/
theorem bs_cls (x M : Int32) (n : Nat) (hM : M.toInt = n) : (x < 0 ∨ M < x) ∨ (¬ x < 0 ∧ ¬ M < x ∧ ∃ j : Nat, j ≤ n ∧ x = nI j) := by
  by_cases h : x < 0
  · exact Or.inl (Or.inl h)
  · by_cases g : M < x
    · exact Or.inl (Or.inr g)
    · refine Or.inr ⟨h, g, nI_of2 hM h ?_⟩
      rw [Int32.lt_iff_toInt_lt] at g
      rw [Int32.le_iff_toInt_le]
      omega
theorem bs_n6 {x : Int32} (h : 5 < x) : ¬ x < 6 := by
  rw [Int32.lt_iff_toInt_lt] at h ⊢
  have e5 : (5 : Int32).toInt = 5 := rfl
  have e6 : (6 : Int32).toInt = 6 := rfl
  omega
theorem bs_bbB {post : Int32 → Prop} {u : St2} {x : Int32} (h : x < 0 ∨ 255 < x) (H : post 1) : wpX_badByte post u x := by
  obtain ⟨ky, pl, bt, a1, a2, a3, a4, a5, a6⟩ := u
  by_cases z : x < 0
  · exact br_t z H
  · exact br_f z (br_f (bs_nle (h.resolve_left z)) H)
theorem bs_bbG {post : Int32 → Prop} {u : St2} {j : Nat} (hj : j ≤ 255) (H : post 0) : wpX_badByte post u (nI j) := by
  obtain ⟨ky, pl, bt, a1, a2, a3, a4, a5, a6⟩ := u
  exact br_f (nI_pos (by omega)) (pk_le j 255 (fun _ => H) (fun z => absurd z (by omega)))
theorem bs_bvB {post : Int32 → Prop} {u : St2} {x : Int32} (h : x < 0 ∨ 5 < x) (H : post 1) : wpX_badVariable post u x := by
  obtain ⟨ky, pl, bt, a1, a2, a3, a4, a5, a6⟩ := u
  by_cases z : x < 0
  · exact br_t z H
  · exact br_f z (br_f (bs_n6 (h.resolve_left z)) H)
theorem bs_bvG {post : Int32 → Prop} {u : St2} {j : Nat} (hj : j ≤ 5) (H : post 0) : wpX_badVariable post u (nI j) := by
  obtain ⟨ky, pl, bt, a1, a2, a3, a4, a5, a6⟩ := u
  exact br_f (nI_pos (by omega)) (pk_lt j 6 (fun _ => H) (fun z => absurd z (by omega)))
section
variable {ky bt : Int32} {a1 a2 a3 a4 a5 a6 : Nat → Int32}
theorem bs_used {post : Int32 → Prop} {p : Nat} {f : Nat → Nat} (hp : p ≤ 4) (hf : ∀ j, j < 6 + p → a2 j = nI (f j)) (H : post (nI (bs_sum f (6 + p)))) : wpX_used post (ky, nI p, bt, a1, a2, a3, a4, a5, a6) :=
  pk_loop (σ := Unit) (fun n i _ => wX_used_4 post ky (nI p) bt a1 a2 a3 a4 a5 a6 n (nI (bs_sum f i)) (nI i)) (fun _ _ => True) (6 + p) 0 () (by omega) trivial
    (fun n _ _ => pk_le (6 + p) (6 + p) (fun _ => H) (fun z => absurd z (by omega)) (bs_6 p))
    (fun n i _ hi _ hw => pk_le (6 + p) i (fun z => absurd z (by omega)) (fun _ => ⟨pk_in i 10 (by omega), nm_r (by rw [nI_clamp (by omega), hf i hi, nI_add]; rfl) (nm_r (nI_1 i) (hw () trivial))⟩) (bs_6 p))
theorem bs_refuse {post : Int32 → Prop} {p n : Nat} {f : Nat → Nat} (hp : p < 4) (hn : n ≤ 40) (hf : ∀ j, j < 6 + p → a2 j = nI (f j)) (hs : bs_sum f (6 + p) + n ≤ 100) (H : post 0) : wpX_refuse post (ky, nI p, bt, a1, a2, a3, a4, a5, a6) (nI n) :=
  pk_eq p 4 (fun z => absurd z (by omega)) (fun _ => pk_le n 40 (fun _ => bs_used (by omega) hf (pk_le (bs_sum f (6 + p) + n) 100 (fun _ => H) (fun z => absurd z (by omega)) (nI_add _ _))) (fun z => absurd z (by omega)))
theorem bs_refuseL {post : Int32 → Prop} {p n : Nat} (hp : p < 4) (hn : 40 < n) (hn' : n ≤ 255) (H : post (-5)) : wpX_refuse post (ky, nI p, bt, a1, a2, a3, a4, a5, a6) (nI n) :=
  pk_eq p 4 (fun z => absurd z (by omega)) (fun _ => pk_le n 40 (fun z => absurd z (by omega)) (fun _ => H))
theorem bs_pushBody {post : St2 → Prop} {p : Nat} {x w : Int32} (hp : p < 4) (H : ∀ b, (¬ x = 0 → b = w) → post (ky, nI (p + 1), bt, a1, upd a2 (6 + p) x, upd a3 (6 + p) b, a4, a5, a6)) : wpX_pushBody post (ky, nI p, bt, a1, a2, a3, a4, a5, a6) w x := by
  have e := bs_top p
  have i : vp_in ((6 : Int32) + nI (p + 1) - 1) 10 := pk_in (6 + p) 10 (by omega) e
  have q : ((6 : Int32) + nI (p + 1) - 1).toNatClampNeg = 6 + p := by rw [e, nI_clamp (by omega)]
  refine nm_r (nI_1 p) ?_
  exact br_c
    (fun z => ⟨i, nm_r (e' := upd a3 (6 + p) 0) (by rw [q]) ⟨i, nm_r (e' := upd a2 (6 + p) x) (by rw [q]) (H 0 (fun g => absurd z g))⟩⟩)
    (fun z => ⟨i, nm_r (e' := upd a3 (6 + p) w) (by rw [q]) ⟨i, nm_r (e' := upd a2 (6 + p) x) (by rw [q]) (H w (fun _ => rfl))⟩⟩)
theorem bs_take {post : Int32 → St2 → Prop} {pl : Int32} {n b : Nat} (hn : n ≤ b) (hb : b ≤ 144) (H : post (nI (b - n)) (ky, pl, nI (b - n), a1, a2, a3, a4, a5, a6)) : wpX_take post (ky, pl, nI b, a1, a2, a3, a4, a5, a6) (nI n) :=
  pk_le n b (fun _ => nm_r (pk_sub hn) H) (fun z => absurd z (by omega))
theorem bs_fill {s : Nat → Int32} {c : Int32} {t i : Nat} (h : ∀ j, t ≤ j → j < t + i → s j = c) : ∀ j, t ≤ j → j < t + (i + 1) → upd s (t + i) c j = c := by
  intro j h1 h2
  by_cases e : j = t + i
  · rw [e, pk_us]
  · rw [pk_un e]
    exact h j h1 (by omega)
theorem bs_rep40 {post : Int32 → St2 → Prop} {p n t : Nat} {c : Int32} (hp : p < 4) (ht : t + n ≤ 144) (H : ∀ a b, (∀ j, t ≤ j → j < t + n → a j = c) → (¬ nI n = 0 → b = nI t) → post (nI n) (ky, nI (p + 1), bt, a1, upd a2 (6 + p) (nI n), upd a3 (6 + p) b, a, a5, a6)) :
    ∃ k, wX_repeat_40 post (nI n) c (nI t) ky (nI p) bt k 0 a1 a2 a3 a4 a5 a6 :=
  pk_loop (fun k i s => wX_repeat_40 post (nI n) c (nI t) ky (nI p) bt k (nI i) a1 a2 a3 s a5 a6) (fun i s => ∀ j, t ≤ j → j < t + i → s j = c) n 0 a4 (by omega) (fun j h1 h2 => absurd h2 (by omega))
    (fun k s h => pk_le n n (fun _ => bs_pushBody hp (fun b hb => H s b h hb)) (fun z => absurd z (by omega)))
    (fun k i s hi h hw => pk_le n i (fun z => absurd z (by omega)) (fun _ => ⟨pk_in (t + i) 144 (by omega) (nI_add t i), nm_r (by rw [nI_add, nI_clamp (by omega)]) (nm_r (nI_1 i) (hw (upd s (t + i) c) (bs_fill h)))⟩))
theorem bs_let0 {post : Int32 → St2 → Prop} {v : Nat} (hv : v ≤ 5) (H : post (-3) (ky, nI 0, bt, a1, a2, a3, a4, a5, a6)) : wpX_let post (ky, nI 0, bt, a1, a2, a3, a4, a5, a6) (nI v) := by
  unfold wpX_let
  exact bs_bvG hv (br_t rfl (br_t rfl H))
theorem bs_let1 {post : Int32 → St2 → Prop} {v : Nat} (hv : v ≤ 5) (H : post (a2 6) (ky, nI 0, bt, a1, upd a2 v (a2 6), upd a3 v (a3 6), a4, a5, a6)) : wpX_let post (ky, nI 1, bt, a1, a2, a3, a4, a5, a6) (nI v) := by
  have e := bs_top 0
  have i : vp_in ((6 : Int32) + nI 1 - 1) 10 := pk_in 6 10 (by omega) e
  have q : ((6 : Int32) + nI 1 - 1).toNatClampNeg = 6 := by rw [e]; exact nI_clamp (by omega)
  have k : vp_in (nI v) 10 := pk_in v 10 (by omega)
  have w : (nI v).toNatClampNeg = v := nI_clamp (by omega)
  unfold wpX_let
  exact bs_bvG hv (br_t rfl (br_f (by decide) ⟨i, k, nm_r (e' := upd a3 v (a3 6)) (by rw [q, w]) ⟨i, k, nm_r (e' := upd a2 v (a2 6)) (by rw [q, w]) (nm_r (e' := nI 0) (by rfl) ⟨k, by rw [w, pk_us]; exact H⟩)⟩⟩))
theorem bs_push {post : Int32 → St2 → Prop} {v : Nat} {f : Nat → Nat} (hv : v ≤ 5) (hf : ∀ j, j < 6 → a2 j = nI (f j)) (hl : f v ≤ 40) (hs : bs_sum f 6 + f v ≤ 100) (H : ∀ b, (¬ nI (f v) = 0 → b = a3 v) → post (nI (f v)) (ky, nI 1, bt, a1, upd a2 6 (nI (f v)), upd a3 6 b, a4, a5, a6)) : wpX_push post (ky, nI 0, bt, a1, a2, a3, a4, a5, a6) (nI v) := by
  have k : vp_in (nI v) 10 := pk_in v 10 (by omega)
  have w : (nI v).toNatClampNeg = v := nI_clamp (by omega)
  have g : a2 v = nI (f v) := hf v (by omega)
  unfold wpX_push
  refine bs_bvG hv (br_t rfl ⟨k, ?_⟩)
  rw [w, g]
  refine bs_refuse (p := 0) (n := f v) (f := f) (by omega) hl hf hs (br_t (by decide) ⟨k, k, ?_⟩)
  refine bs_pushBody (p := 0) (by omega) (fun b hb => ⟨k, ?_⟩)
  rw [pk_un (by omega), g]
  exact H b hb
theorem bs_cut75 {post : Int32 → St2 → Prop} {pl x z : Int32} (H : post x (ky, pl, bt, a1, upd a2 6 x, upd a3 6 z, a4, a5, a6)) : wX_cut_75 post (nI 6) x z (nI 6) ky pl bt a1 a2 a3 a4 a5 a6 := by
  have i : vp_in (nI 6) 10 := pk_in 6 10 (by omega)
  have q : (nI 6).toNatClampNeg = 6 := nI_clamp (by omega)
  exact ⟨i, nm_r (e' := upd a3 6 z) (by rw [q]) ⟨i, nm_r (e' := upd a2 6 x) (by rw [q]) H⟩⟩
theorem bs_cut50 {post : Int32 → St2 → Prop} {pl x4 x : Int32} (H : ∀ b, post x (ky, pl, bt, a1, upd a2 6 x, upd a3 6 b, a4, a5, a6)) : wX_cut_50 post (nI 6) x4 x ky pl bt a1 a2 a3 a4 a5 a6 :=
  br_c (fun _ => bs_cut75 (H _)) (fun _ => ⟨pk_in 6 10 (by omega), bs_cut75 (H _)⟩)
theorem bs_cut {post : Int32 → St2 → Prop} {m l : Nat} (hm : m ≤ 255) (hl : l ≤ 40) (h6 : a2 6 = nI l) (H : ∀ b, post (nI (min m l)) (ky, nI 1, bt, a1, upd a2 6 (nI (min m l)), upd a3 6 b, a4, a5, a6)) : wpX_cut post (ky, nI 1, bt, a1, a2, a3, a4, a5, a6) 0 (nI m) := by
  have q : (nI 6).toNatClampNeg = 6 := nI_clamp (by omega)
  have i : vp_in (nI 6) 10 := pk_in 6 10 (by omega)
  unfold wpX_cut wpX_top
  dsimp only
  rw [bs_top 0]
  refine ⟨i, pk_le 0 l (fun _ => ⟨i, nm_r (e' := nI l) ?_ (pk_le l m (fun z => ?_) (fun z => ?_))⟩) (fun z => absurd z (by omega)) rfl ?_⟩
  · rw [q, h6]
    exact pk_sub (Nat.zero_le l)
  · rw [show min m l = l by omega] at H
    exact bs_cut50 H
  · rw [show min m l = m by omega] at H
    exact bs_cut50 H
  · rw [q, h6]
theorem bs_left0 {post : Int32 → St2 → Prop} {m : Nat} (hm : m ≤ 255) (H : post (-3) (ky, nI 0, bt, a1, a2, a3, a4, a5, a6)) : wpX_left post (ky, nI 0, bt, a1, a2, a3, a4, a5, a6) (nI m) := by
  unfold wpX_left
  exact bs_bbG hm (br_t rfl (br_t rfl H))
theorem bs_left1 {post : Int32 → St2 → Prop} {m l : Nat} (hm : m ≤ 255) (hl : l ≤ 40) (h6 : a2 6 = nI l) (H : ∀ b, post (nI (min m l)) (ky, nI 1, bt, a1, upd a2 6 (nI (min m l)), upd a3 6 b, a4, a5, a6)) : wpX_left post (ky, nI 1, bt, a1, a2, a3, a4, a5, a6) (nI m) := by
  unfold wpX_left
  exact bs_bbG hm (br_t rfl (br_f (by decide) (bs_cut hm hl h6 H)))
theorem bs_join {post : Int32 → St2 → Prop} {p : Nat} (hp : p ≤ 1) (H : post (-3) (ky, nI p, bt, a1, a2, a3, a4, a5, a6)) : wpX_join post (ky, nI p, bt, a1, a2, a3, a4, a5, a6) :=
  pk_le 2 p (fun z => absurd z (by omega)) (fun _ => H)
end
theorem bs_repB {post : Int32 → St2 → Prop} {u : St2} {n c : Int32} (h : (n < 0 ∨ 255 < n) ∨ (c < 0 ∨ 255 < c)) (H : post (-1) u) : wpX_repeat post u n c := by
  obtain ⟨ky, pl, bt, a1, a2, a3, a4, a5, a6⟩ := u
  unfold wpX_repeat
  rcases bs_cls n 255 255 rfl with hn | ⟨_, _, k, hk, rfl⟩
  · exact bs_bbB hn (br_f (by decide) H)
  · rcases h with z | z
    · exact bs_bbB z (br_f (by decide) H)
    · exact bs_bbG hk (br_t rfl (bs_bbB z (br_f (by decide) H)))
theorem bs_letB {post : Int32 → St2 → Prop} {u : St2} {v : Int32} (h : v < 0 ∨ 5 < v) (H : post (-1) u) : wpX_let post u v := by
  obtain ⟨ky, pl, bt, a1, a2, a3, a4, a5, a6⟩ := u
  unfold wpX_let
  exact bs_bvB h (br_f (by decide) H)
theorem bs_pushB {post : Int32 → St2 → Prop} {u : St2} {v : Int32} (h : v < 0 ∨ 5 < v) (H : post (-1) u) : wpX_push post u v := by
  obtain ⟨ky, pl, bt, a1, a2, a3, a4, a5, a6⟩ := u
  unfold wpX_push
  exact bs_bvB h (br_f (by decide) H)
theorem bs_leftB {post : Int32 → St2 → Prop} {u : St2} {m : Int32} (h : m < 0 ∨ 255 < m) (H : post (-1) u) : wpX_left post u m := by
  obtain ⟨ky, pl, bt, a1, a2, a3, a4, a5, a6⟩ := u
  unfold wpX_left
  exact bs_bbB h (br_f (by decide) H)
end
section
/-! the law's own words: what it calls ok, what repeat answers -/
def bs_ok (n c : Int32) : Prop := ¬ n < 0 ∧ ¬ 40 < n ∧ ¬ c < 0 ∧ ¬ 255 < c
def bs_made (n c r : Int32) : Prop :=
  ((n < 0 ∨ 255 < n ∨ c < 0 ∨ ¬ c ≤ 255) → r = -1)
  ∧ (¬ n < 0 → ¬ 255 < n → ¬ c < 0 → c ≤ 255 → n ≤ 40 → r = n)
  ∧ (¬ n < 0 → ¬ 255 < n → ¬ c < 0 → c ≤ 255 → ¬ n ≤ 40 → r = -5)
/-- repeat on the new object -/
theorem bs_repeat {post : Int32 → St2 → Prop} {n c : Int32}
    (H0 : ¬ bs_ok n c → ∀ r, bs_made n c r → post r (nI 0, nI 0, nI 144, bs_z, bs_z, bs_z, bs_z, bs_z, bs_z))
    (H1 : bs_ok n c → ∀ (k : Nat) (a : Nat → Int32) (b : Int32), k ≤ 40 → n = nI k → bs_made n c (nI k) → (0 < k → b = nI (144 - k)) → (∀ j, 144 - k ≤ j → j < 144 → a j = c) → post (nI k) (nI 0, nI 1, nI (144 - k), bs_z, upd bs_z 6 (nI k), upd bs_z 6 b, a, bs_z, bs_z)) :
    wpX_repeat post (nI 0, nI 0, nI 144, bs_z, bs_z, bs_z, bs_z, bs_z, bs_z) n c := by
  have e40 : (40 : Int32).toInt = 40 := rfl
  have e255 : (255 : Int32).toInt = 255 := rfl
  have e0 : (0 : Int32).toInt = 0 := rfl
  rcases bs_cls n 255 255 rfl with hn | ⟨n0, n1, k, hk, rfl⟩
  · refine bs_repB (Or.inl hn) (H0 (fun t => ?_) (-1) ⟨fun _ => rfl, fun a b _ _ _ => (hn.elim a b).elim, fun a b _ _ _ => (hn.elim a b).elim⟩)
    obtain ⟨t1, t2, _, _⟩ := t
    rw [Int32.lt_iff_toInt_lt] at t1 t2
    rw [Int32.lt_iff_toInt_lt, Int32.lt_iff_toInt_lt] at hn
    omega
  · rcases bs_cls c 255 255 rfl with hc | ⟨c0, c1, d, hd, rfl⟩
    · refine bs_repB (Or.inr hc) (H0 (fun t => (hc.elim t.2.2.1 t.2.2.2).elim) (-1) ⟨fun _ => rfl, fun _ _ a b _ => ?_, fun _ _ a b _ => ?_⟩)
      · exact (hc.elim a (fun z => bs_nle z b)).elim
      · exact (hc.elim a (fun z => bs_nle z b)).elim
    · have L : nI d ≤ 255 := nI_le (b := 255) hd (by decide)
      have B : ¬ (nI k < 0 ∨ 255 < nI k ∨ nI d < 0 ∨ ¬ nI d ≤ 255) := fun t => t.elim n0 (fun t => t.elim n1 (fun t => t.elim c0 (fun t => t L)))
      by_cases h40 : k ≤ 40
      · have K : nI k ≤ 40 := nI_le (b := 40) h40 (by decide)
        have M : bs_made (nI k) (nI d) (nI k) := ⟨fun t => absurd t B, fun _ _ _ _ _ => rfl, fun _ _ _ _ t => absurd K t⟩
        have O : bs_ok (nI k) (nI d) := ⟨n0, fun z => bs_nle z K, c0, c1⟩
        unfold wpX_repeat
        refine bs_bbG hk (br_t rfl (bs_bbG hd (br_t rfl (bs_refuse (p := 0) (f := fun _ => 0) (by omega) h40 (fun j _ => rfl) (by show 0 + k ≤ 100; omega) (br_t (by decide) ?_)))))
        refine bs_take (b := 144) (by omega) (by omega) (bs_rep40 (p := 0) (by omega) (by omega) (fun a b ha hb => ?_))
        exact H1 O k a b h40 rfl M (fun z => hb (nI_ne0 z (by omega))) (fun j g1 g2 => ha j g1 (by omega))
      · have K : ¬ nI k ≤ 40 := nI_ge (a := 40) (b := k) (by omega) (by omega)
        have M : bs_made (nI k) (nI d) (-5) := ⟨fun t => absurd t B, fun _ _ _ _ t => absurd t K, fun _ _ _ _ _ => rfl⟩
        unfold wpX_repeat
        refine bs_bbG hk (br_t rfl (bs_bbG hd (br_t rfl (bs_refuseL (p := 0) (by omega) (by omega) hk (br_f (by decide) (H0 (fun t => ?_) (-5) M))))))
        exact t.2.1 (nI_lt (a := 40) (by omega) (by omega))
/-- v is a variable: the picture of the state: s at v, l on the pile -/
def bs_F (v s l : Nat) : Nat → Nat := fun j => if j = 6 then l else if j = v then s else 0
theorem bs_F6 {v s l : Nat} (hv : v ≤ 5) : bs_sum (bs_F v s l) 6 = s := by
  have h : v = 0 ∨ v = 1 ∨ v = 2 ∨ v = 3 ∨ v = 4 ∨ v = 5 := by omega
  rcases h with rfl | rfl | rfl | rfl | rfl | rfl <;> simp [bs_sum, bs_F]
theorem bs_F7 {v s l : Nat} (hv : v ≤ 5) : bs_sum (bs_F v s l) 7 = s + l := by
  show bs_sum (bs_F v s l) 6 + bs_F v s l 6 = s + l
  rw [bs_F6 hv]
  rfl
theorem bs_Fv {v s l : Nat} (hv : v ≤ 5) : bs_F v s l v = s := by
  unfold bs_F
  rw [if_neg (by omega), if_pos rfl]
/-! what the law looks at, behind the calls -/
section
variable {Q : Int32 → Int32 → Int32 → Int32 → Int32 → Prop} {ky bt i c : Int32} {a1 a2 a3 a4 a5 a6 : Nat → Int32}
theorem bs_obsA {v s l : Nat} (hv : v ≤ 5) (hs : s ≤ 40) (hf : ∀ j, j < 7 → a2 j = nI (bs_F v s l j)) (hb : 0 < s → a3 v = nI (144 - s)) (ha : ∀ j, 144 - s ≤ j → j < 144 → a4 j = c)
    (H : ∀ w, (i < 1 → w = 0) → (nI s < i → w = 0) → (¬ i < 1 → ¬ nI s < i → w = c) → Q (nI s) w (nI l) (nI 1) (nI (s + l))) :
    wpX_length (fun r0 => wpX_at (fun r1 => wpX_topLength (fun r2 => wpX_pile (fun r3 => wpX_used (fun r4 => Q r0 r1 r2 r3 r4) (ky, nI 1, bt, a1, a2, a3, a4, a5, a6)) (ky, nI 1, bt, a1, a2, a3, a4, a5, a6)) (ky, nI 1, bt, a1, a2, a3, a4, a5, a6)) (ky, nI 1, bt, a1, a2, a3, a4, a5, a6) (nI v) i) (ky, nI 1, bt, a1, a2, a3, a4, a5, a6) (nI v) := by
  have k : vp_in (nI v) 10 := pk_in v 10 (by omega)
  have w : (nI v).toNatClampNeg = v := nI_clamp (by omega)
  have g : a2 v = nI s := by rw [hf v (by omega), bs_Fv hv]
  have T : ∀ x, (i < 1 → x = 0) → (nI s < i → x = 0) → (¬ i < 1 → ¬ nI s < i → x = c) → wpX_topLength (fun r2 => wpX_pile (fun r3 => wpX_used (fun r4 => Q (nI s) x r2 r3 r4) (ky, nI 1, bt, a1, a2, a3, a4, a5, a6)) (ky, nI 1, bt, a1, a2, a3, a4, a5, a6)) (ky, nI 1, bt, a1, a2, a3, a4, a5, a6) := by
    intro x x1 x2 x3
    have e := bs_top 0
    have q : ((6 : Int32) + nI 1 - 1).toNatClampNeg = 6 := by rw [e]; exact nI_clamp (by omega)
    refine br_f (by decide) ⟨pk_in 6 10 (by omega) e, ?_⟩
    rw [q, hf 6 (by omega)]
    unfold wpX_pile
    refine bs_used (p := 1) (f := bs_F v s l) (by omega) hf ?_
    show Q (nI s) x (nI l) (nI 1) (nI (bs_sum (bs_F v s l) 7))
    rw [bs_F7 hv]
    exact H x x1 x2 x3
  unfold wpX_length
  refine bs_bvG hv (br_t rfl ⟨k, ?_⟩)
  rw [w, g]
  unfold wpX_at
  refine bs_bvG hv (br_t rfl (br_c (fun z => T 0 (fun _ => rfl) (fun _ => rfl) (fun y => absurd z y)) (fun z => ⟨k, ?_⟩)))
  rw [w, g]
  have z' : ¬ i < 0 := by
    rw [Int32.lt_iff_toInt_lt] at z ⊢
    have e1 : (1 : Int32).toInt = 1 := rfl
    have e0 : (0 : Int32).toInt = 0 := rfl
    omega
  obtain ⟨d, hd, rfl⟩ := nI_of z'
  have d1 : 1 ≤ d := by
    rcases Nat.lt_or_ge 0 d with y | y
    · exact y
    · have : d = 0 := by omega
      subst this
      exact absurd (show nI 0 < 1 by decide) z
  refine pk_le d s (fun y => ?_) (fun y => T 0 (fun _ => rfl) (fun _ => rfl) (fun _ t => absurd (nI_lt y hd) t))
  have e : a3 v + nI d - 1 = nI (144 - s + d - 1) := by
    rw [hb (by omega), nI_add]
    exact pk_sub (b := 1) (by omega)
  refine ⟨k, pk_in (144 - s + d - 1) 144 (by omega) e, ?_⟩
  rw [e, nI_clamp (by omega), ha _ (by omega) (by omega)]
  exact T c (fun t => absurd t z) (fun t => absurd t (nI_nlt y (by omega))) (fun _ _ => rfl)
theorem bs_obsB {l : Nat} {v : Int32} (hv : v < 0 ∨ 5 < v) (hf : ∀ j, j < 6 → a2 j = nI 0) (h6 : a2 6 = nI l) (H : Q (-1) 0 (nI l) (nI 1) (nI l)) :
    wpX_length (fun r0 => wpX_at (fun r1 => wpX_topLength (fun r2 => wpX_pile (fun r3 => wpX_used (fun r4 => Q r0 r1 r2 r3 r4) (ky, nI 1, bt, a1, a2, a3, a4, a5, a6)) (ky, nI 1, bt, a1, a2, a3, a4, a5, a6)) (ky, nI 1, bt, a1, a2, a3, a4, a5, a6)) (ky, nI 1, bt, a1, a2, a3, a4, a5, a6) v i) (ky, nI 1, bt, a1, a2, a3, a4, a5, a6) v := by
  have e := bs_top 0
  have q : ((6 : Int32) + nI 1 - 1).toNatClampNeg = 6 := by rw [e]; exact nI_clamp (by omega)
  unfold wpX_length
  refine bs_bvB hv (br_f (by decide) ?_)
  unfold wpX_at
  refine bs_bvB hv (br_f (by decide) (br_f (by decide) ⟨pk_in 6 10 (by omega) e, ?_⟩))
  rw [q, h6]
  unfold wpX_pile
  refine bs_used (p := 1) (f := bs_F 7 0 l) (by omega) (fun j hj => ?_) ?_
  · by_cases ej : j = 6
    · rw [ej]
      exact h6
    · rw [hf j (by omega)]
      unfold bs_F
      rw [if_neg ej, if_neg (by omega)]
  · rw [show bs_sum (bs_F 7 0 l) (6 + 1) = l by simp [bs_sum, bs_F]]
    exact H
theorem bs_obsC {v : Int32} (hv : v < 0 ∨ 5 < v) (hf : ∀ j, j < 6 → a2 j = nI 0) (H : Q (-1) 0 (-3) (nI 0) (nI 0)) :
    wpX_length (fun r0 => wpX_at (fun r1 => wpX_topLength (fun r2 => wpX_pile (fun r3 => wpX_used (fun r4 => Q r0 r1 r2 r3 r4) (ky, nI 0, bt, a1, a2, a3, a4, a5, a6)) (ky, nI 0, bt, a1, a2, a3, a4, a5, a6)) (ky, nI 0, bt, a1, a2, a3, a4, a5, a6)) (ky, nI 0, bt, a1, a2, a3, a4, a5, a6) v i) (ky, nI 0, bt, a1, a2, a3, a4, a5, a6) v := by
  unfold wpX_length
  refine bs_bvB hv (br_f (by decide) ?_)
  unfold wpX_at
  refine bs_bvB hv (br_f (by decide) (br_t rfl ?_))
  unfold wpX_pile
  exact bs_used (p := 0) (f := fun _ => 0) (by omega) hf H
end
end
section
/-! the law's checks: they hold where the answers are what the law says -/
section
variable {post : Int32 → St0 → Prop} {mc ms kc ks : Nat} {n c v m i x6 x7 x8 x9 x10 x11 x12 x13 x14 x15 x16 x17 x18 x19 x20 : Int32}
theorem bs_257 {z : Int32} (hp : post 1 ())
    (h7 : x16 = 0 → x7 = -1) (h7' : ¬ x16 = 0 → x7 = x18)
    (h8 : x17 = 0 → x8 = -1) (h8' : ¬ x17 = 0 → 0 ≤ x19 → x8 = x20) (h8'' : ¬ x17 = 0 → ¬ 0 ≤ x19 → x8 = -3)
    (h9 : x9 = -3)
    (h10 : x16 = 0 → x10 = -1) (h10' : ¬ x16 = 0 → x10 = x18)
    (h11 : x16 = 0 → x11 = 0) (h11a : ¬ x16 = 0 → i < 1 → x11 = 0) (h11b : ¬ x16 = 0 → x18 < i → x11 = 0) (h11c : ¬ x16 = 0 → ¬ i < 1 → ¬ x18 < i → x11 = c)
    (h12 : 0 ≤ x20 → x12 = x20) (h12' : ¬ 0 ≤ x20 → x12 = -3)
    (h13 : 0 ≤ x20 → x13 = 1) (h13' : ¬ 0 ≤ x20 → x13 = 0)
    (h14 : 0 ≤ x20 → x14 = x18 + x20) (h14' : ¬ 0 ≤ x20 → x14 = x18 + 0) :
    wL_lawOf_257 post mc ms c i x7 x8 x9 x10 x11 x12 x13 x14 x16 x17 x18 x19 x20 z z kc ks := by
  have t382 : ∀ w, x13 = w → wL_lawOf_382 post mc ms x14 x18 x20 w x13 kc ks := fun w e => br_t e (br_c (fun g => br_t (h14 g) hp) (fun g => br_t (h14' g) hp))
  have t367 : ∀ w, x12 = w → wL_lawOf_367 post mc ms x13 x14 x18 x20 w x12 kc ks := fun w e => br_t e (br_c (fun g => t382 1 (h13 g)) (fun g => t382 0 (h13' g)))
  have t350 : ∀ w, x11 = w → wL_lawOf_350 post mc ms x12 x13 x14 x18 x20 w x11 kc ks := fun w e => br_t e (br_c (fun g => t367 x20 (h12 g)) (fun g => t367 (-3) (h12' g)))
  have t322 : ∀ w, x10 = w → wL_lawOf_322 post mc ms c i x11 x12 x13 x14 x16 x18 x20 w x10 kc ks := fun w e => br_t e (br_c (fun g => t350 0 (h11 g)) (fun g => br_c (fun q => t350 0 (h11a g q)) (fun q => br_c (fun k => t350 0 (h11b g k)) (fun k => t350 c (h11c g q k)))))
  have t299 : ∀ w, x8 = w → wL_lawOf_299 post mc ms c i x9 x10 x11 x12 x13 x14 x16 x18 x20 w x8 kc ks := fun w e => br_t e (br_t h9 (br_c (fun g => t322 (-1) (h10 g)) (fun g => t322 x18 (h10' g))))
  have t273 : ∀ w, x7 = w → wL_lawOf_273 post mc ms c i x8 x9 x10 x11 x12 x13 x14 x16 x17 x18 x19 x20 w x7 kc ks := fun w e => br_t e (br_c (fun g => t299 (-1) (h8 g)) (fun g => br_c (fun q => t299 x20 (h8' g q)) (fun q => t299 (-3) (h8'' g q))))
  exact br_t rfl (br_c (fun g => t273 (-1) (h7 g)) (fun g => t273 x18 (h7' g)))
theorem bs_215 (hm : bs_made n c x6) (T : ∀ z, wL_lawOf_257 post mc ms c i x7 x8 x9 x10 x11 x12 x13 x14 x16 x17 x18 x19 x20 z z kc ks) :
    wL_lawOf_215 post mc ms n c i x6 x7 x8 x9 x10 x11 x12 x13 x14 x16 x17 x18 x19 x20 kc ks := by
  obtain ⟨mA, mB, mC⟩ := hm
  have t257 : ∀ w, x6 = w → wL_lawOf_257 post mc ms c i x7 x8 x9 x10 x11 x12 x13 x14 x16 x17 x18 x19 x20 w x6 kc ks := by
    intro w e
    subst e
    exact T x6
  exact br_c (fun a => t257 (-1) (mA (Or.inl a))) (fun a => br_c (fun b => t257 (-1) (mA (Or.inr (Or.inl b)))) (fun b => br_c (fun d => t257 (-1) (mA (Or.inr (Or.inr (Or.inl d))))) (fun d => br_c (fun e => br_c (fun f => t257 n (mB a b d e f)) (fun f => t257 (-5) (mC a b d e f))) (fun e => t257 (-1) (mA (Or.inr (Or.inr (Or.inr e))))))))
/-- the flags, the size, the whole and the left: any that the law's own words give -/
theorem bs_fin
    (f15 : bs_ok n c → x15 = 1) (f15' : ¬ bs_ok n c → x15 = 0)
    (f16 : ¬ v < 0 → ¬ 5 < v → x16 = 1) (f16' : (v < 0 ∨ 5 < v) → x16 = 0)
    (f17 : ¬ m < 0 → ¬ 255 < m → x17 = 1) (f17' : (m < 0 ∨ 255 < m) → x17 = 0)
    (f18 : ¬ x15 = 0 → ¬ x16 = 0 → x18 = n) (f18' : (x15 = 0 ∨ x16 = 0) → x18 = 0)
    (f19 : x16 = 0 → x15 = 0 → x19 = -1) (f19' : x16 = 0 → ¬ x15 = 0 → x19 = n) (f19'' : ¬ x16 = 0 → x19 = x18)
    (f20 : (x19 < 0 ∨ x17 = 0) → x20 = x19) (f20' : ¬ x19 < 0 → ¬ x17 = 0 → x19 ≤ m → x20 = x19) (f20'' : ¬ x19 < 0 → ¬ x17 = 0 → ¬ x19 ≤ m → x20 = m)
    (T : wL_lawOf_215 post mc ms n c i x6 x7 x8 x9 x10 x11 x12 x13 x14 x16 x17 x18 x19 x20 kc ks) :
    (n < 0 → wL_lawOf_112 post mc ms n c v m i x6 x7 x8 x9 x10 x11 x12 x13 x14 kc ks) ∧ (¬ n < 0 → ((40 < n → wL_lawOf_112 post mc ms n c v m i x6 x7 x8 x9 x10 x11 x12 x13 x14 kc ks) ∧ (¬ 40 < n → ((c < 0 → wL_lawOf_112 post mc ms n c v m i x6 x7 x8 x9 x10 x11 x12 x13 x14 kc ks) ∧ (¬ c < 0 → ((255 < c → wL_lawOf_112 post mc ms n c v m i x6 x7 x8 x9 x10 x11 x12 x13 x14 kc ks) ∧ (¬ 255 < c → wL_lawOf_113 post mc ms n c v m i x6 x7 x8 x9 x10 x11 x12 x13 x14 1 kc ks))))))) := by
  have t215 : ∀ w, x20 = w → wL_lawOf_215 post mc ms n c i x6 x7 x8 x9 x10 x11 x12 x13 x14 x16 x17 x18 x19 w kc ks := by
    intro w e
    subst e
    exact T
  have t186 : wL_lawOf_186 post mc ms n c m i x6 x7 x8 x9 x10 x11 x12 x13 x14 x16 x17 x18 x19 kc ks :=
    br_c (fun a => t215 x19 (f20 (Or.inl a))) (fun a => br_c (fun b => t215 x19 (f20 (Or.inr b))) (fun b => br_c (fun d => t215 x19 (f20' a b d)) (fun d => t215 m (f20'' a b d))))
  have t186' : ∀ w, x19 = w → wL_lawOf_186 post mc ms n c m i x6 x7 x8 x9 x10 x11 x12 x13 x14 x16 x17 x18 w kc ks := by
    intro w e
    subst e
    exact t186
  have t164 : wL_lawOf_164 post mc ms n c m i x6 x7 x8 x9 x10 x11 x12 x13 x14 x15 x16 x17 x18 kc ks :=
    br_c (fun a => br_c (fun b => t186' (-1) (f19 a b)) (fun b => t186' n (f19' a b))) (fun a => t186' x18 (f19'' a))
  have t164' : ∀ w, x18 = w → wL_lawOf_164 post mc ms n c m i x6 x7 x8 x9 x10 x11 x12 x13 x14 x15 x16 x17 w kc ks := by
    intro w e
    subst e
    exact t164
  have t147 : wL_lawOf_147 post mc ms n c m i x6 x7 x8 x9 x10 x11 x12 x13 x14 x15 x16 x17 kc ks :=
    br_c (fun a => t164' 0 (f18' (Or.inl a))) (fun a => br_c (fun b => t164' 0 (f18' (Or.inr b))) (fun b => t164' n (f18 a b)))
  have t147' : ∀ w, x17 = w → wL_lawOf_147 post mc ms n c m i x6 x7 x8 x9 x10 x11 x12 x13 x14 x15 x16 w kc ks := by
    intro w e
    subst e
    exact t147
  have t129 : wL_lawOf_129 post mc ms n c m i x6 x7 x8 x9 x10 x11 x12 x13 x14 x15 x16 kc ks :=
    br_c (fun a => t147' 0 (f17' (Or.inl a))) (fun a => br_c (fun b => t147' 0 (f17' (Or.inr b))) (fun b => t147' 1 (f17 a b)))
  have t129' : ∀ w, x16 = w → wL_lawOf_129 post mc ms n c m i x6 x7 x8 x9 x10 x11 x12 x13 x14 x15 w kc ks := by
    intro w e
    subst e
    exact t129
  have t113 : wL_lawOf_113 post mc ms n c v m i x6 x7 x8 x9 x10 x11 x12 x13 x14 x15 kc ks :=
    br_c (fun a => t129' 0 (f16' (Or.inl a))) (fun a => br_c (fun b => t129' 0 (f16' (Or.inr b))) (fun b => t129' 1 (f16 a b)))
  have t113' : ∀ w, x15 = w → wL_lawOf_113 post mc ms n c v m i x6 x7 x8 x9 x10 x11 x12 x13 x14 w kc ks := by
    intro w e
    subst e
    exact t113
  exact br_c (fun a => t113' 0 (f15' (fun t => t.1 a))) (fun a => br_c (fun b => t113' 0 (f15' (fun t => t.2.1 b))) (fun b => br_c (fun d => t113' 0 (f15' (fun t => t.2.2.1 d))) (fun d => br_c (fun e => t113' 0 (f15' (fun t => t.2.2.2 e))) (fun e => t113' 1 (f15 ⟨a, b, d, e⟩)))))
end
end
section
/-! left, both roads in one; the three ends of the law; the law -/
def bs_cutS (m : Int32) (s l : Nat) (r : Int32) : Prop := ((m < 0 ∨ 255 < m) → r = -1 ∧ l = s) ∧ (¬ m < 0 → ¬ 255 < m → ∃ k : Nat, k ≤ 255 ∧ m = nI k ∧ l = min k s ∧ r = nI l)
theorem bs_left {post : Int32 → St2 → Prop} {ky bt m : Int32} {a1 a2 a3 a4 a5 a6 : Nat → Int32} {s : Nat} (hs : s ≤ 40) (h6 : a2 6 = nI s)
    (H : ∀ (r : Int32) (l : Nat) (b2 b3 : Nat → Int32), l ≤ s → bs_cutS m s l r → b2 6 = nI l → (∀ j, j < 6 → b2 j = a2 j) → (∀ j, j < 6 → b3 j = a3 j) → post r (ky, nI 1, bt, a1, b2, b3, a4, a5, a6)) :
    wpX_left post (ky, nI 1, bt, a1, a2, a3, a4, a5, a6) m := by
  rcases bs_cls m 255 255 rfl with hm | ⟨m0, m1, k, hk, rfl⟩
  · exact bs_leftB hm (H (-1) s a2 a3 (Nat.le_refl s) ⟨fun _ => ⟨rfl, rfl⟩, fun a b => (hm.elim a b).elim⟩ h6 (fun _ _ => rfl) (fun _ _ => rfl))
  · exact bs_left1 hk hs h6 (fun b => H (nI (min k s)) (min k s) (upd a2 6 (nI (min k s))) (upd a3 6 b) (Nat.min_le_right k s) ⟨fun t => (t.elim m0 m1).elim, fun _ _ => ⟨k, hk, rfl, rfl, rfl⟩⟩ pk_us (fun j hj => pk_un (by omega)) (fun j hj => pk_un (by omega)))
theorem bs_flag (P : Prop) : ∃ x : Int32, (P → x = 1) ∧ (¬ P → x = 0) := by
  by_cases h : P
  · exact ⟨1, fun _ => rfl, fun z => absurd h z⟩
  · exact ⟨0, fun z => absurd z h, fun _ => rfl⟩
theorem bs_flag0 {P : Prop} {x : Int32} (h : P → x = 1) (h0 : x = 0) : ¬ P := fun z => by
  rw [h z] at h0
  exact absurd h0 (by decide)
theorem bs_flag1 {P : Prop} {x : Int32} (h : ¬ P → x = 0) (h0 : ¬ x = 0) : P := by
  by_cases z : P
  · exact z
  · exact absurd (h z) h0
theorem bs_nor {P Q : Prop} (h : ¬ (¬ P ∧ ¬ Q)) : P ∨ Q := by
  by_cases p : P
  · exact Or.inl p
  · by_cases q : Q
    · exact Or.inr q
    · exact absurd ⟨p, q⟩ h
section
variable {post : Int32 → St0 → Prop} {mc ms kc ks : Nat} {n c m i x6 x8 : Int32}
theorem bs_finA {v s l : Nat} {w : Int32} (hp : post 1 ()) (hv : v ≤ 5) (hs : s ≤ 40) (hls : l ≤ s) (ho : bs_ok n c → n = nI s) (ho' : ¬ bs_ok n c → s = 0) (hm : bs_made n c x6) (hc : bs_cutS m s l x8)
    (w1 : i < 1 → w = 0) (w2 : nI s < i → w = 0) (w3 : ¬ i < 1 → ¬ nI s < i → w = c) :
    (n < 0 → wL_lawOf_112 post mc ms n c (nI v) m i x6 (nI s) x8 (-3) (nI s) w (nI l) (nI 1) (nI (s + l)) kc ks) ∧ (¬ n < 0 → ((40 < n → wL_lawOf_112 post mc ms n c (nI v) m i x6 (nI s) x8 (-3) (nI s) w (nI l) (nI 1) (nI (s + l)) kc ks) ∧ (¬ 40 < n → ((c < 0 → wL_lawOf_112 post mc ms n c (nI v) m i x6 (nI s) x8 (-3) (nI s) w (nI l) (nI 1) (nI (s + l)) kc ks) ∧ (¬ c < 0 → ((255 < c → wL_lawOf_112 post mc ms n c (nI v) m i x6 (nI s) x8 (-3) (nI s) w (nI l) (nI 1) (nI (s + l)) kc ks) ∧ (¬ 255 < c → wL_lawOf_113 post mc ms n c (nI v) m i x6 (nI s) x8 (-3) (nI s) w (nI l) (nI 1) (nI (s + l)) 1 kc ks))))))) := by
  obtain ⟨x15, a1, a0⟩ := bs_flag (bs_ok n c)
  obtain ⟨x17, b1, b0⟩ := bs_flag (¬ m < 0 ∧ ¬ 255 < m)
  have N1 : ¬ (1 : Int32) = 0 := by decide
  have S0 : ¬ nI s < 0 := nI_pos (by omega)
  have S0' : 0 ≤ nI s := nI_pos' (by omega)
  have L0' : 0 ≤ nI l := nI_pos' (by omega)
  have C0 : x17 = 0 → x8 = -1 ∧ l = s := fun z => hc.1 (bs_nor (bs_flag0 b1 z))
  have C1 : ¬ x17 = 0 → ∃ k : Nat, k ≤ 255 ∧ m = nI k ∧ l = min k s ∧ x8 = nI l := fun z => hc.2 (bs_flag1 b0 z).1 (bs_flag1 b0 z).2
  refine bs_fin (x15 := x15) (x16 := 1) (x17 := x17) (x18 := nI s) (x19 := nI s) (x20 := nI l) a1 a0 (fun _ _ => rfl) (fun t => ?_) (fun a b => b1 ⟨a, b⟩) (fun t => b0 (fun z => t.elim z.1 z.2)) (fun a _ => (ho (bs_flag1 a0 a)).symm) (fun t => ?_) (fun t => absurd t N1) (fun t => absurd t N1) (fun _ => rfl) (fun t => ?_) (fun _ a b => ?_) (fun _ a b => ?_) ?_
  · exact (t.elim (nI_pos (by omega)) (nI_nlt (a := 5) (b := v) hv (by omega))).elim
  · rcases t with z | z
    · rw [ho' (bs_flag0 a1 z)]
      rfl
    · exact absurd z N1
  · rcases t with z | z
    · exact absurd z S0
    · rw [(C0 z).2]
  · obtain ⟨k, hk, rfl, e, _⟩ := C1 a
    rw [nI_leI (by omega) (by omega)] at b
    rw [e, Nat.min_eq_right b]
  · obtain ⟨k, hk, rfl, e, _⟩ := C1 a
    rw [nI_leI (by omega) (by omega)] at b
    rw [e, Nat.min_eq_left (by omega)]
  · refine bs_215 hm (fun z => bs_257 hp (fun t => absurd t N1) (fun _ => rfl) (fun t => (C0 t).1) (fun t _ => ?_) (fun _ t => absurd S0' t) rfl (fun t => absurd t N1) (fun _ => rfl) (fun t => absurd t N1) (fun _ => w1) (fun _ => w2) (fun _ => w3) (fun _ => rfl) (fun t => absurd L0' t) (fun _ => rfl) (fun t => absurd L0' t) (fun _ => (nI_add s l).symm) (fun t => absurd L0' t))
    obtain ⟨k, _, _, _, e⟩ := C1 t
    exact e
theorem bs_finB {v : Int32} {s l : Nat} (hp : post 1 ()) (hv : v < 0 ∨ 5 < v) (hs : s ≤ 40) (hls : l ≤ s) (ho : bs_ok n c) (hn : n = nI s) (hm : bs_made n c x6) (hc : bs_cutS m s l x8) :
    (n < 0 → wL_lawOf_112 post mc ms n c v m i x6 (-1) x8 (-3) (-1) 0 (nI l) (nI 1) (nI l) kc ks) ∧ (¬ n < 0 → ((40 < n → wL_lawOf_112 post mc ms n c v m i x6 (-1) x8 (-3) (-1) 0 (nI l) (nI 1) (nI l) kc ks) ∧ (¬ 40 < n → ((c < 0 → wL_lawOf_112 post mc ms n c v m i x6 (-1) x8 (-3) (-1) 0 (nI l) (nI 1) (nI l) kc ks) ∧ (¬ c < 0 → ((255 < c → wL_lawOf_112 post mc ms n c v m i x6 (-1) x8 (-3) (-1) 0 (nI l) (nI 1) (nI l) kc ks) ∧ (¬ 255 < c → wL_lawOf_113 post mc ms n c v m i x6 (-1) x8 (-3) (-1) 0 (nI l) (nI 1) (nI l) 1 kc ks))))))) := by
  obtain ⟨x17, b1, b0⟩ := bs_flag (¬ m < 0 ∧ ¬ 255 < m)
  have N1 : ¬ (1 : Int32) = 0 := by decide
  have N0 : ∀ {P : Prop}, ¬ (0 : Int32) = 0 → P := fun t => absurd rfl t
  have S0 : ¬ nI s < 0 := nI_pos (by omega)
  have S0' : 0 ≤ nI s := nI_pos' (by omega)
  have L0' : 0 ≤ nI l := nI_pos' (by omega)
  have C0 : x17 = 0 → x8 = -1 ∧ l = s := fun z => hc.1 (bs_nor (bs_flag0 b1 z))
  have C1 : ¬ x17 = 0 → ∃ k : Nat, k ≤ 255 ∧ m = nI k ∧ l = min k s ∧ x8 = nI l := fun z => hc.2 (bs_flag1 b0 z).1 (bs_flag1 b0 z).2
  refine bs_fin (x15 := 1) (x16 := 0) (x17 := x17) (x18 := 0) (x19 := nI s) (x20 := nI l) (fun _ => rfl) (fun t => absurd ho t) (fun a b => (hv.elim a b).elim) (fun _ => rfl) (fun a b => b1 ⟨a, b⟩) (fun t => b0 (fun z => t.elim z.1 z.2)) (fun _ t => N0 t) (fun _ => rfl) (fun _ t => absurd t N1) (fun _ _ => hn.symm) (fun t => N0 t) (fun t => ?_) (fun _ a b => ?_) (fun _ a b => ?_) ?_
  · rcases t with z | z
    · exact absurd z S0
    · rw [(C0 z).2]
  · obtain ⟨k, hk, rfl, e, _⟩ := C1 a
    rw [nI_leI (by omega) (by omega)] at b
    rw [e, Nat.min_eq_right b]
  · obtain ⟨k, hk, rfl, e, _⟩ := C1 a
    rw [nI_leI (by omega) (by omega)] at b
    rw [e, Nat.min_eq_left (by omega)]
  · refine bs_215 hm (fun z => bs_257 hp (fun _ => rfl) (fun t => N0 t) (fun t => (C0 t).1) (fun t _ => ?_) (fun _ t => absurd S0' t) rfl (fun _ => rfl) (fun t => N0 t) (fun _ => rfl) (fun t => N0 t) (fun t => N0 t) (fun t => N0 t) (fun _ => rfl) (fun t => absurd L0' t) (fun _ => rfl) (fun t => absurd L0' t) (fun _ => ?_) (fun t => absurd L0' t))
    · obtain ⟨k, _, _, _, e⟩ := C1 t
      exact e
    · rw [← nI_0, nI_add, Nat.zero_add]
theorem bs_finC {v : Int32} (hp : post 1 ()) (hv : v < 0 ∨ 5 < v) (ho : ¬ bs_ok n c) (hm : bs_made n c x6) (hc : (m < 0 ∨ 255 < m) → x8 = -1) (hc' : ¬ m < 0 → ¬ 255 < m → x8 = -3) :
    (n < 0 → wL_lawOf_112 post mc ms n c v m i x6 (-1) x8 (-3) (-1) 0 (-3) (nI 0) (nI 0) kc ks) ∧ (¬ n < 0 → ((40 < n → wL_lawOf_112 post mc ms n c v m i x6 (-1) x8 (-3) (-1) 0 (-3) (nI 0) (nI 0) kc ks) ∧ (¬ 40 < n → ((c < 0 → wL_lawOf_112 post mc ms n c v m i x6 (-1) x8 (-3) (-1) 0 (-3) (nI 0) (nI 0) kc ks) ∧ (¬ c < 0 → ((255 < c → wL_lawOf_112 post mc ms n c v m i x6 (-1) x8 (-3) (-1) 0 (-3) (nI 0) (nI 0) kc ks) ∧ (¬ 255 < c → wL_lawOf_113 post mc ms n c v m i x6 (-1) x8 (-3) (-1) 0 (-3) (nI 0) (nI 0) 1 kc ks))))))) := by
  obtain ⟨x17, b1, b0⟩ := bs_flag (¬ m < 0 ∧ ¬ 255 < m)
  have N0 : ∀ {P : Prop}, ¬ (0 : Int32) = 0 → P := fun t => absurd rfl t
  have M1 : (-1 : Int32) < 0 := by decide
  have M1' : ¬ (0 : Int32) ≤ -1 := by decide
  refine bs_fin (x15 := 0) (x16 := 0) (x17 := x17) (x18 := 0) (x19 := -1) (x20 := -1) (fun t => absurd t ho) (fun _ => rfl) (fun a b => (hv.elim a b).elim) (fun _ => rfl) (fun a b => b1 ⟨a, b⟩) (fun t => b0 (fun z => t.elim z.1 z.2)) (fun t => N0 t) (fun _ => rfl) (fun _ _ => rfl) (fun _ t => N0 t) (fun t => N0 t) (fun _ => rfl) (fun t => absurd M1 t) (fun t => absurd M1 t) ?_
  exact bs_215 hm (fun z => bs_257 hp (fun _ => rfl) (fun t => N0 t) (fun t => hc (bs_nor (bs_flag0 b1 t))) (fun _ t => absurd t M1') (fun t _ => hc' (bs_flag1 b0 t).1 (bs_flag1 b0 t).2) rfl (fun _ => rfl) (fun t => N0 t) (fun _ => rfl) (fun t => N0 t) (fun t => N0 t) (fun t => N0 t) (fun t => absurd t M1') (fun _ => rfl) (fun t => absurd t M1') (fun _ => rfl) (fun t => absurd t M1') (fun _ => rfl))
end
theorem bs_lawOf {post : Int32 → St0 → Prop} {n c v m i : Int32} (hp : post 1 ()) : wpL_lawOf post 7 501 () n c v m i := by
  refine ⟨by decide, by decide, 6, 492, by decide, by decide, by decide, by decide, by decide, by decide, by decide, by decide, by decide, by decide, by decide, by decide, by decide, by decide, ?_⟩
  rcases bs_cls v 5 5 rfl with hv | ⟨_, _, v, hv, rfl⟩
  · refine bs_repeat (fun ho r hr => ?_) (fun ho k a b hk e hm hb ha => ?_)
    · refine bs_letB hv (bs_pushB hv ?_)
      rcases bs_cls m 255 255 rfl with hm | ⟨m0, m1, q, hq, rfl⟩
      · refine bs_leftB hm (bs_join (p := 0) (by omega) (bs_obsC hv (fun _ _ => rfl) ?_))
        exact bs_finC hp hv ho hr (fun _ => rfl) (fun a b => (hm.elim a b).elim)
      · refine bs_left0 hq (bs_join (p := 0) (by omega) (bs_obsC hv (fun _ _ => rfl) ?_))
        exact bs_finC hp hv ho hr (fun t => (t.elim m0 m1).elim) (fun _ _ => rfl)
    · refine bs_letB hv (bs_pushB hv ?_)
      refine bs_left (s := k) hk pk_us (fun r l b2 b3 hl hc h6 h2 h3 => ?_)
      refine bs_join (p := 1) (by omega) (bs_obsB hv (fun j hj => ?_) h6 ?_)
      · rw [h2 j hj, pk_un (by omega)]
        rfl
      · exact bs_finB hp hv hk hl ho e hm hc
  · refine bs_repeat (fun ho r hr => ?_) (fun ho k a b hk e hm hb ha => ?_)
    · refine bs_let0 hv (bs_push (f := fun _ => 0) hv (fun _ _ => rfl) (by show 0 ≤ 40; omega) (by show 0 + 0 ≤ 100; omega) (fun b' hb' => ?_))
      refine bs_left (s := 0) (by omega) pk_us (fun r' l b2 b3 hl hc h6 h2 h3 => ?_)
      refine bs_join (p := 1) (by omega) (bs_obsA (c := c) (s := 0) (l := l) hv (by omega) (fun j hj => ?_) (fun z => absurd z (by omega)) (fun j g1 g2 => absurd g2 (by omega)) (fun w w1 w2 w3 => ?_))
      · by_cases ej : j = 6
        · rw [ej]
          exact h6
        · rw [h2 j (by omega), pk_un ej]
          unfold bs_F
          rw [if_neg ej]
          split <;> rfl
      · exact bs_finA hp hv (by omega) hl (fun t => absurd t ho) (fun _ => rfl) hr hc w1 w2 w3
    · refine bs_let1 hv (bs_push (f := bs_F v k 0) hv (fun j hj => ?_) (by rw [bs_Fv hv]; exact hk) (by rw [bs_Fv hv, bs_F6 hv]; omega) (fun b' hb' => ?_))
      · by_cases ej : j = v
        · rw [ej, pk_us, pk_us, bs_Fv hv]
        · rw [pk_un ej, pk_un (by omega)]
          unfold bs_F
          rw [if_neg (by omega), if_neg ej]
          rfl
      · rw [bs_Fv hv]
        refine bs_left (s := k) hk pk_us (fun r' l b2 b3 hl hc h6 h2 h3 => ?_)
        refine bs_join (p := 1) (by omega) (bs_obsA (c := c) (s := k) (l := l) hv hk (fun j hj => ?_) (fun z => ?_) ha (fun w w1 w2 w3 => ?_))
        · by_cases ej : j = 6
          · rw [ej]
            exact h6
          · rw [h2 j (by omega), pk_un ej]
            by_cases ew : j = v
            · rw [ew, pk_us, pk_us, bs_Fv hv]
            · rw [pk_un ew, pk_un ej]
              unfold bs_F
              rw [if_neg ej, if_neg ew]
              rfl
        · rw [h3 v (by omega), pk_un (by omega), pk_us, pk_us]
          exact hb z
        · exact bs_finA hp hv hk hl (fun _ => e) (fun t => absurd ho t) hm hc w1 w2 w3
theorem bs_cell {post : Int32 → Prop} {L : Nat} {xs : Nat → Int32} {u : St0} {k : Nat} (hL : L ≤ 5) (hk : k ≤ 5) (H : ∀ x, post x) : wpL_cellAt post L xs u (nI k) :=
  pk_le L k (fun _ => H 0) (fun z => ⟨pk_in k L z, H _⟩)
theorem i_vc (xs : Nat → Int32) (L : Nat) (hL : L ≤ 5) : wpL_law (fun r => r = 1) L xs := by
  unfold wpL_law
  exact bs_cell (k := 0) hL (by omega) (fun _ => bs_cell (k := 1) hL (by omega) (fun _ => bs_cell (k := 2) hL (by omega) (fun _ => bs_cell (k := 3) hL (by omega) (fun _ => bs_cell (k := 4) hL (by omega) (fun _ => ⟨7, 501, by decide, by decide, bs_lawOf rfl⟩)))))
end
