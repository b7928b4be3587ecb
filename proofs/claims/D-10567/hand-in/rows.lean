section
section
variable {ck wt st pa ch fk oc : Int32} {a1 a2 a3 a4 a5 a6 a7 a8 a9 a10 : Nat → Int32} {k : Nat}
theorem ac_out {p : Int32} {q : Nat} (hk : k ≤ 14) (hq : q < k) (e : p = nI q) (h : p < 0 ∨ nI k ≤ p) : False := by
  subst e
  rcases h with h | h
  · exact nI_pos (by omega) h
  · exact nI_ge hq (by omega) h
theorem ac_inside {post : Int32 → Prop} {sz p : Int32} (h0 : p < 0 ∨ sz ≤ p → post 0) (h1 : ¬ p < 0 → ¬ sz ≤ p → post 1) : wpX_inside post (sz, ck, wt, st, pa, ch, fk, oc, a1, a2, a3, a4, a5, a6, a7, a8, a9, a10) p :=
  br_c (fun a => h0 (.inl a)) (fun a => br_c (fun b => h0 (.inr b)) (fun b => h1 a b))
theorem ac_60 {post : St2 → Prop} {sz x4 x5 : Int32} {p : Nat} (hp : p < 14) (H : post (sz, ck, wt ||| ((1 : Int32) <<< (nI p &&& 31)), st, pa, ch, fk, oc, a1, a2, a3, a4, upd a5 p 1, upd a6 p x4, upd a7 p x5, a8, a9, a10)) : wX_come_60 post (nI p) x4 x5 sz ck wt st pa ch fk oc a1 a2 a3 a4 a5 a6 a7 a8 a9 a10 := by
  unfold wX_come_60
  rw [nI_clamp (show p < 2 ^ 31 by omega)]
  refine ⟨pk_in p 14 hp, fun _ e1 => ⟨pk_in p 14 hp, fun _ e2 => ⟨pk_in p 14 hp, fun _ e3 _ e4 => ?_⟩⟩⟩
  subst e1 e2 e3 e4
  exact H
theorem ac_upd {f : Nat → Int32} {q : Nat} : ∀ j, f j ≠ 0 → upd f q 1 j ≠ 0 := by
  intro j h
  by_cases e : j = q
  · subst e
    rw [pk_us]
    decide
  · rw [pk_un e]
    exact h
/-- come: met only grows; if p is inside it is met behind it; if it was not, it waits -/
theorem ac_come {post : St2 → Prop} {p x y : Int32} (hk : k ≤ 14)
    (H : ∀ (w : Int32) (b5 b6 b7 : Nat → Int32), (∀ j, a5 j ≠ 0 → b5 j ≠ 0) → (∀ q, q < k → p = nI q → b5 q ≠ 0) → (∀ q, q < k → p = nI q → a5 q = 0 → w = wt ||| ((1 : Int32) <<< (nI q &&& 31))) → post (nI k, ck, w, st, pa, ch, fk, oc, a1, a2, a3, a4, b5, b6, b7, a8, a9, a10)) :
    wpX_come post (nI k, ck, wt, st, pa, ch, fk, oc, a1, a2, a3, a4, a5, a6, a7, a8, a9, a10) p x y := by
  unfold wpX_come
  refine ac_inside (fun h => br_t rfl ?_) (fun h1 h2 => br_f (by decide) ?_)
  · exact H wt a5 a6 a7 (fun _ h => h) (fun q hq e => (ac_out hk hq e h).elim) (fun q hq e => (ac_out hk hq e h).elim)
  · obtain ⟨q, hq, rfl, _, _, _⟩ := pk_mu h1 h2 (by omega)
    rw [nI_clamp (show q < 2 ^ 31 by omega)]
    have i14 : vp_in (nI q) 14 := pk_in q 14 (by omega)
    have M : wX_come_60 post (nI q) (a6 q &&& x) (a7 q ||| y) (nI k) ck wt st pa ch fk oc a1 a2 a3 a4 a5 a6 a7 a8 a9 a10 :=
      ac_60 (by omega) (H _ _ _ _ ac_upd (fun q' hq' e => by
        have e' := (nI_eq (by omega) (by omega)).mp e
        subst e'
        rw [pk_us]
        decide) (fun q' hq' e _ => by
        have e' := (nI_eq (by omega) (by omega)).mp e
        subst e'
        rfl))
    refine ⟨i14, fun _ e1 => ⟨i14, fun _ e2 => ⟨i14, ?_⟩⟩⟩
    subst e1 e2
    refine br_c (fun _ => M) (fun hm => ⟨i14, br_c (fun _ => ⟨i14, br_c (fun _ => ?_) (fun _ => M)⟩) (fun _ => M)⟩)
    exact H wt a5 a6 a7 (fun _ h => h) (fun q' hq' e => by
        have e' := (nI_eq (by omega) (by omega)).mp e
        subst e'
        exact hm) (fun q' hq' e z => by
        have e' := (nI_eq (by omega) (by omega)).mp e
        subst e'
        exact absurd z hm)
theorem ac_lw2 {post : Int32 → Prop} {sz : Int32} (H : ∀ p, p < 14 → (wt = 1 → p = 0) → post (nI p)) : ∀ n i, i ≤ 14 → 14 - i < n → (wt = 1 → i = 0) → wX_leastWaiting_2 post sz ck wt st pa ch fk oc a1 a2 a3 a4 a5 a6 a7 a8 a9 a10 n (nI i) := by
  intro n
  induction n with
  | zero =>
    intro i _ h
    omega
  | succ n ih =>
    intro i hi hn hw
    refine pk_le 14 i (fun _ => H 0 (by omega) (fun _ => rfl)) (fun z => br_c (fun b => ?_) (fun _ => H i z hw))
    refine nm_r (nI_1 i) (ih (i + 1) (by omega) (by omega) (fun e => ?_))
    exfalso
    rw [e, hw e] at b
    exact absurd b (by decide)
theorem ac_least {post : Int32 → Prop} {sz : Int32} (H : ∀ p, p < 14 → (wt = 1 → p = 0) → post (nI p)) : wpX_leastWaiting post (sz, ck, wt, st, pa, ch, fk, oc, a1, a2, a3, a4, a5, a6, a7, a8, a9, a10) :=
  ⟨15, ac_lw2 H 15 0 (by omega) (by omega) (fun _ => rfl)⟩
theorem ac_after {post : Int32 → Prop} {sz x : Int32} {p : Nat} (hp : p < 14) (H : ∀ r, post r) : wpX_after post (sz, ck, wt, st, pa, ch, fk, oc, a1, a2, a3, a4, a5, a6, a7, a8, a9, a10) (nI p) x := by
  have i14 : vp_in (nI p) 14 := pk_in p 14 hp
  unfold wpX_after
  refine ⟨i14, fun _ _ => ⟨i14, fun _ _ => ⟨i14, fun _ _ => br_c (fun _ => ?_) (fun _ => br_c (fun _ => ?_) (fun _ => br_c (fun _ => ⟨i14, fun _ _ => H _⟩) (fun _ => br_c (fun _ => ⟨i14, ?_⟩) (fun _ => H _))))⟩⟩⟩
  · exact fun _ _ _ _ => H _
  · exact fun _ _ _ _ => H _
  · exact fun _ _ => H _
theorem ac_57 {post : St2 → Prop} {x y op : Int32} {p : Nat} (hk : k ≤ 14)
    (H : ∀ (w : Int32) (b5 b6 b7 : Nat → Int32), (∀ j, a5 j ≠ 0 → b5 j ≠ 0) → (op = 0 → p + 1 < k → b5 (p + 1) ≠ 0) → post (nI k, ck, w, st, pa, ch, fk, oc, a1, a2, a3, a4, b5, b6, b7, a8, a9, a10)) :
    wX_spread_57 post (nI p) x y op (nI k) ck wt st pa ch fk oc a1 a2 a3 a4 a5 a6 a7 a8 a9 a10 := by
  unfold wX_spread_57
  refine br_c (fun e => H wt a5 a6 a7 (fun _ h => h) (fun e0 => absurd (e.symm.trans e0) (by decide))) (fun _ => br_c (fun e => H wt a5 a6 a7 (fun _ h => h) (fun e0 => absurd (e.symm.trans e0) (by decide))) (fun _ => ?_))
  exact ac_come hk (fun w b5 b6 b7 m hq _ => H w b5 b6 b7 m (fun _ hp1 => hq (p + 1) hp1 (nI_1 p)))
theorem ac_45 {post : St2 → Prop} {x y op : Int32} {p : Nat} (hk : k ≤ 14) (hp : p < 14)
    (H : ∀ (w : Int32) (b5 b6 b7 : Nat → Int32), (∀ j, a5 j ≠ 0 → b5 j ≠ 0) → (op = 0 → p + 1 < k → b5 (p + 1) ≠ 0) → post (nI k, ck, w, st, pa, ch, fk, oc, a1, a2, a3, a4, b5, b6, b7, a8, a9, a10)) :
    wX_spread_45 post (nI p) x y op (nI k) ck wt st pa ch fk oc a1 a2 a3 a4 a5 a6 a7 a8 a9 a10 := by
  unfold wX_spread_45
  refine ⟨pk_in p 14 hp, ?_⟩
  refine ac_come hk (fun w b5 b6 b7 m _ _ => ?_)
  exact ac_57 hk (fun w' c5 c6 c7 m' h1 => H w' c5 c6 c7 (fun j h => m' j (m j h)) h1)
theorem ac_spread {post : St2 → Prop} {p : Nat} (hk : k ≤ 14) (hp : p < 14)
    (H : ∀ (w : Int32) (b5 b6 b7 : Nat → Int32), (∀ j, a5 j ≠ 0 → b5 j ≠ 0) → (a1 p = 0 → p + 1 < k → b5 (p + 1) ≠ 0) → post (nI k, ck, w, st, pa, ch, fk, oc, a1, a2, a3, a4, b5, b6, b7, a8, a9, a10)) :
    wpX_spread post (nI k, ck, wt, st, pa, ch, fk, oc, a1, a2, a3, a4, a5, a6, a7, a8, a9, a10) (nI p) := by
  have i14 : vp_in (nI p) 14 := pk_in p 14 hp
  unfold wpX_spread
  refine ⟨i14, ac_after hp (fun r => ?_)⟩
  refine ⟨i14, ac_after hp (fun r' => ?_)⟩
  refine ⟨i14, fun op e => ?_⟩
  rw [nI_clamp (show p < 2 ^ 31 by omega)] at e
  subst e
  exact br_c (fun _ => ac_45 hk hp H) (fun _ => br_c (fun _ => ac_45 hk hp H) (fun _ => ac_57 hk H))
end
end
section
/-- what faultsAt answers for set, fork, jump, stop -/
def ac_V (sz op num p : Int32) : Int32 :=
  if op = 7 then 0 else if op = 6 then (if num < 0 ∨ sz ≤ num then 4 else 0) else if op = 5 then (if (num < 0 ∨ sz ≤ num) ∨ (p + 1 < 0 ∨ sz ≤ p + 1) then 4 else 0) else (if p + 1 < 0 ∨ sz ≤ p + 1 then 4 else 0)
theorem ac_V04 (sz op num p : Int32) : ac_V sz op num p = 0 ∨ ac_V sz op num p = 4 := by
  unfold ac_V
  split
  · exact .inl rfl
  · split
    · split
      · exact .inr rfl
      · exact .inl rfl
    · split
      · split
        · exact .inr rfl
        · exact .inl rfl
      · split
        · exact .inr rfl
        · exact .inl rfl
theorem ac_V8 (sz op num p : Int32) : (ac_V sz op num p).toInt8.toInt32 = ac_V sz op num p := by
  rcases ac_V04 sz op num p with h | h
  · rw [h]
    decide
  · rw [h]
    decide
/-- the program: at most two instructions, the first of two is a set; none is add or out -/
def ac_P (k : Nat) (a1 : Nat → Int32) : Prop := k ≤ 2 ∧ (k = 2 → a1 0 = 0) ∧ ∀ j, j < k → a1 j ≠ 1 ∧ a1 j ≠ 3
def ac_N (k : Nat) (a1 a4 b8 : Nat → Int32) : Prop := ∀ j, j < k → b8 j = ac_V (nI k) (a1 j) (a4 j) (nI j)
section
variable {ck wt st pa ch fk oc : Int32} {a1 a2 a3 a4 a5 a6 a7 a8 a9 a10 : Nat → Int32} {k : Nat}
theorem ac_159 {post : Int32 → Prop} {sz x5 : Int32} (h : post (if x5 = 0 then 0 else 4)) : wX_faultsAt_159 post 0 x5 sz ck wt st pa ch fk oc a1 a2 a3 a4 a5 a6 a7 a8 a9 a10 := by
  unfold wX_faultsAt_159
  rw [show (0 : Int32) ||| 4 = 4 by decide]
  exact br_c (fun e => by rw [if_pos e] at h; exact h) (fun e => by rw [if_neg e] at h; exact h)
theorem ac_132 {post : Int32 → Prop} {sz op z0 p : Int32} (h67 : op = 6 ∨ op = 7 → post (if z0 = 0 then 0 else 4)) (ho : op ≠ 6 → op ≠ 7 → post (if z0 = 0 ∧ ¬ (p + 1 < 0 ∨ sz ≤ p + 1) then 0 else 4)) : wX_faultsAt_132 post p op 0 z0 sz ck wt st pa ch fk oc a1 a2 a3 a4 a5 a6 a7 a8 a9 a10 := by
  unfold wX_faultsAt_132
  refine br_c (fun e => ac_159 (h67 (.inl e))) (fun n6 => br_c (fun e => ac_159 (h67 (.inr e))) (fun n7 => ?_))
  have h := ho n6 n7
  refine ac_inside (fun c => br_t rfl (ac_159 ?_)) (fun c d => br_f (by decide) (ac_159 ?_))
  · rw [if_neg (fun t => t.2 c)] at h
    rw [if_neg (by decide)]
    exact h
  · by_cases z : z0 = 0
    · rw [if_pos ⟨z, fun t => t.elim c d⟩] at h
      rw [if_pos z]
      exact h
    · rw [if_neg (fun t => z t.1)] at h
      rw [if_neg z]
      exact h
theorem ac_114 {post : Int32 → Prop} {sz : Int32} {p : Nat} (hp : p < 14) (h56 : a1 p = 5 ∨ a1 p = 6) (h : post (ac_V sz (a1 p) (a4 p) (nI p))) : wX_faultsAt_114 post (nI p) (a1 p) 0 sz ck wt st pa ch fk oc a1 a2 a3 a4 a5 a6 a7 a8 a9 a10 := by
  unfold wX_faultsAt_114
  rw [nI_clamp (show p < 2 ^ 31 by omega)]
  refine ⟨pk_in p 14 hp, ac_inside (fun c => br_t rfl (ac_132 (fun e => ?_) (fun n6 n7 => ?_))) (fun c d => br_f (by decide) (ac_132 (fun e => ?_) (fun n6 n7 => ?_)))⟩
  · have e6 : a1 p = 6 := by
      rcases h56 with z | z
      · rw [z] at e
        exact absurd e (by decide)
      · exact z
    rw [if_neg (by decide)]
    rw [e6, ac_V, if_neg (by decide), if_pos rfl, if_pos c] at h
    exact h
  · have e5 : a1 p = 5 := h56.resolve_right n6
    rw [if_neg (fun t => absurd t.1 (by decide))]
    rw [e5, ac_V, if_neg (by decide), if_neg (by decide), if_pos rfl, if_pos (.inl c)] at h
    exact h
  · have e6 : a1 p = 6 := by
      rcases h56 with z | z
      · rw [z] at e
        exact absurd e (by decide)
      · exact z
    rw [if_pos rfl]
    rw [e6, ac_V, if_neg (by decide), if_pos rfl, if_neg (fun t => t.elim c d)] at h
    exact h
  · have e5 : a1 p = 5 := h56.resolve_right n6
    rw [e5, ac_V, if_neg (by decide), if_neg (by decide), if_pos rfl] at h
    by_cases z : nI p + 1 < 0 ∨ sz ≤ nI p + 1
    · rw [if_neg (fun t => t.2 z)]
      rw [if_pos (.inr z)] at h
      exact h
    · rw [if_pos ⟨rfl, z⟩]
      rw [if_neg (fun t => t.elim (fun y => y.elim c d) z)] at h
      exact h
theorem ac_faultsAt {post : Int32 → Prop} {sz : Int32} {p : Nat} (hp : p < 14) (n1 : a1 p ≠ 1) (n3 : a1 p ≠ 3) (h : post (ac_V sz (a1 p) (a4 p) (nI p))) : wpX_faultsAt post (sz, ck, wt, st, pa, ch, fk, oc, a1, a2, a3, a4, a5, a6, a7, a8, a9, a10) (nI p) := by
  unfold wpX_faultsAt
  rw [nI_clamp (show p < 2 ^ 31 by omega)]
  refine ⟨pk_in p 14 hp, fun op e => ?_⟩
  subst e
  refine br_f n1 (br_f n3 ?_)
  unfold wX_faultsAt_24
  refine br_t rfl ?_
  unfold wX_faultsAt_64
  refine br_f n1 ?_
  unfold wX_faultsAt_103
  refine br_c (fun e => ac_114 hp (.inl e) h) (fun n5 => br_c (fun e => ac_114 hp (.inr e) h) (fun n6 => ?_))
  unfold wX_faultsAt_131
  refine ac_132 (fun e => ?_) (fun _ n7 => ?_)
  · have e7 : a1 p = 7 := e.resolve_left n6
    rw [if_pos rfl]
    rw [e7, ac_V, if_pos rfl] at h
    exact h
  · rw [ac_V, if_neg n7, if_neg n6, if_neg n5] at h
    by_cases z : nI p + 1 < 0 ∨ sz ≤ nI p + 1
    · rw [if_neg (fun t => t.2 z)]
      rw [if_pos z] at h
      exact h
    · rw [if_pos ⟨rfl, z⟩]
      rw [if_neg z] at h
      exact h
/-- the notes: every met position below the size is noted -/
theorem ac_116 {post : St2 → Prop} (hk : k ≤ 14) (hm : ∀ j, j < k → a5 j ≠ 0) (ho : ∀ j, j < k → a1 j ≠ 1 ∧ a1 j ≠ 3) (H : ∀ b8 : Nat → Int32, ac_N k a1 a4 b8 → post (nI k, ck, wt, st, pa, ch, fk, oc, a1, a2, a3, a4, a5, a6, a7, b8, a9, a10)) : ∃ n, wX_check_116 post (nI k) ck wt st pa ch fk oc n 0 a1 a2 a3 a4 a5 a6 a7 a8 a9 a10 := by
  refine pk_loop (fun n i s => wX_check_116 post (nI k) ck wt st pa ch fk oc n (nI i) a1 a2 a3 a4 a5 a6 a7 s a9 a10) (fun i s => ∀ j, j < i → s j = ac_V (nI k) (a1 j) (a4 j) (nI j)) k 0 a8 (by omega) (fun j hj => absurd hj (by omega)) (fun n s h => pk_le k k (fun _ => H s h) (fun z => absurd z (by omega))) ?_
  intro n i s hi h hw
  refine pk_le k i (fun z => absurd z (by omega)) (fun _ => ⟨pk_in i 14 (by omega), br_f (by rw [nI_clamp (by omega)]; exact hm i hi) ?_⟩)
  refine ac_faultsAt (by omega) (ho i hi).1 (ho i hi).2 ?_
  refine ⟨pk_in i 14 (by omega), fun b8 e8 => nm_r (nI_1 i) (hw b8 ?_)⟩
  intro j hj
  rw [e8, nI_clamp (show i < 2 ^ 31 by omega)]
  by_cases e : j = i
  · rw [e, pk_us, ac_V8]
  · rw [pk_un e]
    exact h j (by omega)
/-- the rounds: behind the first one every position below the size is met -/
theorem ac_70 {post : St2 → Prop} (hP : ac_P k a1) (H : ∀ (w : Int32) (b5 b6 b7 b8 : Nat → Int32), ac_N k a1 a4 b8 → post (nI k, ck, w, st, pa, ch, fk, oc, a1, a2, a3, a4, b5, b6, b7, b8, a9, a10)) : ∀ (n i : Nat) (w : Int32) (c5 c6 c7 : Nat → Int32), i ≤ 600 → 600 - i < n → ((∀ j, j < k → c5 j ≠ 0) ∨ (i = 0 ∧ w = 1 ∧ c5 0 ≠ 0)) → wX_check_70 post n (nI i) (nI k) ck w st pa ch fk oc a1 a2 a3 a4 c5 c6 c7 a8 a9 a10 := by
  intro n
  induction n with
  | zero =>
    intro i w c5 c6 c7 _ h
    omega
  | succ n ih =>
    intro i w c5 c6 c7 hi hn hv
    have hk : k ≤ 2 := hP.1
    have X : (∀ j, j < k → c5 j ≠ 0) → ∃ n, wX_check_116 post (nI k) ck w st pa ch fk oc n 0 a1 a2 a3 a4 c5 c6 c7 a8 a9 a10 := fun hm => ac_116 (by omega) hm hP.2.2 (fun b8 h8 => H w c5 c6 c7 b8 h8)
    refine pk_le 600 i (fun z => X (hv.resolve_right (fun t => ?_))) (fun z => br_c (fun w0 => X (hv.resolve_right (fun t => ?_))) (fun _ => ?_))
    · omega
    · rw [w0] at t
      exact absurd t.2.1 (by decide)
    · refine ac_least (fun p hp hw => ?_)
      refine fun w2 _ => ?_
      refine ac_spread (by omega) hp (fun w' b5 b6 b7 m h1 => ?_)
      refine nm_r (nI_1 i) (ih (i + 1) w' b5 b6 b7 (by omega) (by omega) (.inl (fun j hj => ?_)))
      rcases hv with hv | ⟨_, hw1, h00⟩
      · exact m j (hv j hj)
      · have p0 : p = 0 := hw hw1
        subst p0
        by_cases ej : j = 0
        · rw [ej]
          exact m 0 h00
        · have e1 : j = 0 + 1 := by omega
          rw [e1]
          exact h1 (hP.2.1 (by omega)) (by omega)
theorem ac_15 {post : St2 → Prop} (hk1 : 0 < k) (hP : ac_P k a1) (H : ∀ (w : Int32) (b5 b6 b7 b8 : Nat → Int32), ac_N k a1 a4 b8 → post (nI k, ck, w, st, pa, ch, fk, oc, a1, a2, a3, a4, b5, b6, b7, b8, a9, a10)) : ∃ n, wX_check_15 post (nI k) ck wt st pa ch fk oc n 0 a1 a2 a3 a4 a5 a6 a7 a8 a9 a10 := by
  have hk : k ≤ 2 := hP.1
  refine pk_loop (σ := (Nat → Int32) × (Nat → Int32) × (Nat → Int32) × (Nat → Int32)) (fun n i s => wX_check_15 post (nI k) ck wt st pa ch fk oc n (nI i) a1 a2 a3 a4 s.1 s.2.1 s.2.2.1 s.2.2.2 a9 a10) (fun i s => ∀ j, j < i → s.1 j = 0) 14 0 (a5, a6, a7, a8) (by omega) (fun j hj => absurd hj (by omega)) ?_ ?_
  · intro n s h
    refine pk_le 14 14 (fun _ => ?_) (fun z => absurd z (by omega))
    refine ac_come (by omega) (fun w b5 b6 b7 m hq hw => ?_)
    refine ⟨601, ac_70 hP H 601 0 w b5 b6 b7 (by omega) (by omega) (.inr ⟨rfl, ?_, hq 0 hk1 rfl⟩)⟩
    rw [hw 0 hk1 rfl (h 0 (by omega))]
    decide
  · intro n i s hi h hw
    have i14 : vp_in (nI i) 14 := pk_in i 14 hi
    refine pk_le 14 i (fun z => absurd z (by omega)) (fun _ => ⟨i14, fun c5 e5 => ⟨i14, fun c6 e6 => ⟨i14, fun c7 e7 => ⟨i14, fun c8 e8 => nm_r (nI_1 i) (hw (c5, c6, c7, c8) ?_)⟩⟩⟩⟩)
    intro j hj
    show c5 j = 0
    rw [e5, nI_clamp (show i < 2 ^ 31 by omega)]
    by_cases e : j = i
    · rw [e, pk_us]
    · rw [pk_un e]
      exact h j (by omega)
/-- check: behind it every position below the size holds its faults -/
theorem ac_check {post : St2 → Prop} (hk1 : 0 < k) (hP : ac_P k a1) (hC : ck = 0 ∨ ac_N k a1 a4 a8) (H : ∀ (c w : Int32) (b5 b6 b7 b8 : Nat → Int32), ac_N k a1 a4 b8 → post (nI k, c, w, st, pa, ch, fk, oc, a1, a2, a3, a4, b5, b6, b7, b8, a9, a10)) : wpX_check post (nI k, ck, wt, st, pa, ch, fk, oc, a1, a2, a3, a4, a5, a6, a7, a8, a9, a10) := by
  unfold wpX_check
  exact br_c (fun _ => ac_15 hk1 hP (fun w b5 b6 b7 b8 h => H 1 w b5 b6 b7 b8 h)) (fun n => H ck wt a5 a6 a7 a8 (hC.resolve_left n))
end
end
section
/-- what faults(q) answers -/
def ac_Ff (k : Nat) (a1 a4 : Nat → Int32) (q f : Int32) : Prop := (q < 0 ∨ nI k ≤ q → f = 0) ∧ ∀ j, j < k → q = nI j → f = ac_V (nI k) (a1 j) (a4 j) (nI j)
/-- no fault at all, and something to check -/
def ac_G (k : Nat) (a1 a4 : Nat → Int32) : Prop := 0 < k ∧ ∀ j, j < k → ac_V (nI k) (a1 j) (a4 j) (nI j) = 0
/-- what sound() and start(..) answer -/
def ac_Fs (k : Nat) (a1 a4 : Nat → Int32) (r : Int32) : Prop := (r = 1 ∧ ac_G k a1 a4) ∨ (r = 0 ∧ ¬ ac_G k a1 a4)
section
variable {ck wt st pa ch fk oc : Int32} {a1 a2 a3 a4 a5 a6 a7 a8 a9 a10 : Nat → Int32} {k : Nat}
theorem ac_faults {post : Int32 → St2 → Prop} {q : Int32} (hP : ac_P k a1) (hC : ck = 0 ∨ ac_N k a1 a4 a8) (H : ∀ (f c w : Int32) (b5 b6 b7 b8 : Nat → Int32), ac_Ff k a1 a4 q f → (c = 0 ∨ ac_N k a1 a4 b8) → post f (nI k, c, w, st, pa, ch, fk, oc, a1, a2, a3, a4, b5, b6, b7, b8, a9, a10)) : wpX_faults post (nI k, ck, wt, st, pa, ch, fk, oc, a1, a2, a3, a4, a5, a6, a7, a8, a9, a10) q := by
  have hk : k ≤ 2 := hP.1
  unfold wpX_faults
  refine ac_inside (fun h => br_t rfl ?_) (fun h1 h2 => br_f (by decide) ?_)
  · exact H 0 ck wt a5 a6 a7 a8 ⟨fun _ => rfl, fun j hj e => (ac_out (by omega) hj e h).elim⟩ hC
  · obtain ⟨i, hi, rfl, _, _, _⟩ := pk_mu h1 h2 (by omega)
    refine ac_check (by omega) hP hC (fun c w b5 b6 b7 b8 h8 => ?_)
    refine ⟨pk_in i 14 (by omega), H _ c w b5 b6 b7 b8 ⟨fun t => (ac_out (by omega) hi rfl t).elim, fun j hj e => ?_⟩ (.inr h8)⟩
    have e' := (nI_eq (by omega) (by omega)).mp e
    subst e'
    rw [nI_clamp (by omega)]
    exact h8 i hi
theorem ac_s15 {post : Int32 → St2 → Prop} (hk : k ≤ 14) (h8 : ac_N k a1 a4 a8) (hk1 : 0 < k) (H : ∀ r, ac_Fs k a1 a4 r → post r (nI k, ck, wt, st, pa, ch, fk, oc, a1, a2, a3, a4, a5, a6, a7, a8, a9, a10)) : ∀ n i, i ≤ k → k - i < n → (∀ j, j < i → ac_V (nI k) (a1 j) (a4 j) (nI j) = 0) → wX_sound_15 post (nI k) ck wt st pa ch fk oc a1 a2 a3 a4 a5 a6 a7 a8 a9 a10 n (nI i) := by
  intro n
  induction n with
  | zero =>
    intro i _ h
    omega
  | succ n ih =>
    intro i hi hn hv
    refine pk_le k i (fun z => H 1 (.inl ⟨rfl, hk1, fun j hj => hv j (by omega)⟩)) (fun z => ⟨pk_in i 14 (by omega), br_c (fun b => ?_) (fun b => ?_)⟩)
    · rw [nI_clamp (by omega), h8 i z] at b
      refine nm_r (nI_1 i) (ih (i + 1) (by omega) (by omega) (fun j hj => ?_))
      by_cases e : j = i
      · rw [e]
        exact b
      · exact hv j (by omega)
    · rw [nI_clamp (by omega), h8 i z] at b
      exact H 0 (.inr ⟨rfl, fun t => b (t.2 i z)⟩)
theorem ac_sound {post : Int32 → St2 → Prop} (hP : ac_P k a1) (hC : ck = 0 ∨ ac_N k a1 a4 a8) (H : ∀ (r c w : Int32) (b5 b6 b7 b8 : Nat → Int32), ac_Fs k a1 a4 r → (c = 0 ∨ ac_N k a1 a4 b8) → post r (nI k, c, w, st, pa, ch, fk, oc, a1, a2, a3, a4, b5, b6, b7, b8, a9, a10)) : wpX_sound post (nI k, ck, wt, st, pa, ch, fk, oc, a1, a2, a3, a4, a5, a6, a7, a8, a9, a10) := by
  have hk : k ≤ 2 := hP.1
  unfold wpX_sound
  refine pk_eq k 0 (fun z => H 0 ck wt a5 a6 a7 a8 (.inr ⟨rfl, fun t => absurd t.1 (by omega)⟩) hC) (fun z => ?_)
  refine ac_check (by omega) hP hC (fun c w b5 b6 b7 b8 h8 => ?_)
  exact ⟨k + 1, ac_s15 (by omega) h8 (by omega) (fun r hr => H r c w b5 b6 b7 b8 hr (.inr h8)) (k + 1) 0 (by omega) (by omega) (fun j hj => absurd hj (by omega))⟩
theorem ac_36 {post : Int32 → St2 → Prop} {sz : Int32} (H : ∀ b9 : Nat → Int32, post 1 (sz, ck, wt, st, pa, ch, fk, oc, a1, a2, a3, a4, a5, a6, a7, a8, b9, a10)) : ∃ n, wX_start_36 post sz ck wt st pa ch fk oc n 0 a1 a2 a3 a4 a5 a6 a7 a8 a9 a10 :=
  pk_loop (fun n i s => wX_start_36 post sz ck wt st pa ch fk oc n (nI i) a1 a2 a3 a4 a5 a6 a7 a8 s a10) (fun _ _ => True) 5 0 a9 (by omega) trivial
    (fun n s _ => pk_le 5 5 (fun _ => H s) (fun z => absurd z (by omega)))
    (fun n i s hi _ hw => pk_le 5 i (fun z => absurd z (by omega)) (fun _ => ⟨pk_in i 5 hi, fun b9 _ => nm_r (nI_1 i) (hw b9 trivial)⟩))
theorem ac_start {post : Int32 → St2 → Prop} {x : Int32} (hP : ac_P k a1) (hC : ck = 0 ∨ ac_N k a1 a4 a8) (H : ∀ (r c w s p h f o : Int32) (b5 b6 b7 b8 b9 : Nat → Int32), ac_Fs k a1 a4 r → post r (nI k, c, w, s, p, h, f, o, a1, a2, a3, a4, b5, b6, b7, b8, b9, a10)) : wpX_start post (nI k, ck, wt, st, pa, ch, fk, oc, a1, a2, a3, a4, a5, a6, a7, a8, a9, a10) x := by
  unfold wpX_start
  refine ac_sound hP hC (fun r c w b5 b6 b7 b8 hr _ => ?_)
  rcases hr with ⟨rfl, hg⟩ | ⟨rfl, hg⟩
  · exact br_f (by decide) (ac_36 (fun b9 => H 1 c w 1 0 x 0 0 b5 b6 b7 b8 b9 (.inl ⟨rfl, hg⟩)))
  · exact br_t rfl (H 0 c w st pa ch fk oc b5 b6 b7 b8 a9 (.inr ⟨rfl, hg⟩))
theorem ac_drop {post : Int32 → St2 → Prop} (hk : k ≤ 14) (H : ∀ (r : Int32) (u : St2), (k = 0 → r = -1) → (∀ j, k = j + 1 → r = nI j) → post r u) : wpX_drop post (nI k, ck, wt, st, pa, ch, fk, oc, a1, a2, a3, a4, a5, a6, a7, a8, a9, a10) := by
  unfold wpX_drop
  refine pk_eq k 0 (fun z => H (-1) _ (fun _ => rfl) (fun j e => absurd e (by omega))) (fun z => ?_)
  obtain ⟨j, rfl⟩ : ∃ j, k = j + 1 := ⟨k - 1, by omega⟩
  refine nm_r (nI_pred j) ?_
  exact H (nI j) _ (fun e => absurd e (by omega)) (fun i e => by rw [show i = j by omega])
theorem ac_append {post : Int32 → St2 → Prop} {op v p n : Int32} (hk : k < 14) (H : ∀ b2 b3 : Nat → Int32, post (nI k) (nI (k + 1), 0, wt, 0, pa, ch, fk, 0, upd a1 k op.toInt8.toInt32, b2, b3, upd a4 k n, a5, a6, a7, a8, a9, a10)) : wpX_append post (nI k, ck, wt, st, pa, ch, fk, oc, a1, a2, a3, a4, a5, a6, a7, a8, a9, a10) op v p n := by
  unfold wpX_append
  have i14 : vp_in (nI k) 14 := pk_in k 14 hk
  refine pk_lt k 14 (fun _ => ⟨i14, fun c1 e1 => ⟨i14, fun c2 _ => ⟨i14, fun c3 _ => ⟨i14, fun c4 e4 => ?_⟩⟩⟩⟩) (fun z => absurd z (by omega))
  rw [nI_clamp (show k < 2 ^ 31 by omega)] at e1 e4
  subst e1 e4
  refine nm_r (nI_1 k) ?_
  have h := H c2 c3
  rw [← nI_pred k] at h
  exact h
theorem ac_set {post : Int32 → St2 → Prop} {v p n : Int32} (hk : k < 14)
    (Hg : (¬ v < 0 ∧ ¬ 4 ≤ v ∧ ¬ p < 0 ∧ ¬ 5 ≤ p) → ∀ b2 b3 : Nat → Int32, post (nI k) (nI (k + 1), 0, wt, 0, pa, ch, fk, 0, upd a1 k 0, b2, b3, upd a4 k n, a5, a6, a7, a8, a9, a10))
    (Hb : ¬ (¬ v < 0 ∧ ¬ 4 ≤ v ∧ ¬ p < 0 ∧ ¬ 5 ≤ p) → post (-1) (nI k, ck, wt, st, pa, ch, fk, oc, a1, a2, a3, a4, a5, a6, a7, a8, a9, a10)) : wpX_set post (nI k, ck, wt, st, pa, ch, fk, oc, a1, a2, a3, a4, a5, a6, a7, a8, a9, a10) v p n := by
  unfold wpX_set
  refine br_c (fun c => br_t rfl (Hb (fun t => t.1 c))) (fun c1 => br_c (fun c => br_t rfl (Hb (fun t => t.2.1 c))) (fun c2 => br_f (by decide) ?_))
  refine br_c (fun c => br_t rfl (Hb (fun t => t.2.2.1 c))) (fun c3 => br_c (fun c => br_t rfl (Hb (fun t => t.2.2.2 c))) (fun c4 => br_f (by decide) ?_))
  exact ac_append hk (Hg ⟨c1, c2, c3, c4⟩)
theorem ac_flow {post : Int32 → St2 → Prop} {x t : Int32} (hk : k < 14)
    (Hg : ¬ x < 0 → ¬ 2 < x → ∀ b2 b3 : Nat → Int32, post (nI k) (nI (k + 1), 0, wt, 0, pa, ch, fk, 0, upd a1 k (5 + x).toInt8.toInt32, b2, b3, upd a4 k t, a5, a6, a7, a8, a9, a10))
    (Hb : x < 0 ∨ (¬ x < 0 ∧ 2 < x) → post (-1) (nI k, ck, wt, st, pa, ch, fk, oc, a1, a2, a3, a4, a5, a6, a7, a8, a9, a10)) : wpX_flow post (nI k, ck, wt, st, pa, ch, fk, oc, a1, a2, a3, a4, a5, a6, a7, a8, a9, a10) x t := by
  unfold wpX_flow
  exact br_c (fun c => Hb (.inl c)) (fun c => br_c (fun d => Hb (.inr ⟨c, d⟩)) (fun d => ac_append hk (Hg c d)))
end
end
section
/-! the law's own checks, road by road -/
theorem ac_tU {post : Int32 → St0 → Prop} {mc ms kc ks : Nat} {x t q one f n z : Int32} (hp : post 1 ())
    (hx : x < 0 ∨ (¬ x < 0 ∧ 2 < x))
    (hz : (z = 0 ∧ one = -1 ∧ n = -1 ∧ f = 0) ∨ (z = 1 ∧ one = 0 ∧ n = 0 ∧ ((q = 0 ∧ f = 4) ∨ (¬ q = 0 ∧ f = 0)))) :
    wL_lawOf_82 post mc ms x t q one (-1) f 0 0 n z kc ks := by
  rcases hx with hx | ⟨hx, hx2⟩ <;> rcases hz with ⟨rfl, rfl, rfl, rfl⟩ | ⟨rfl, rfl, rfl, ⟨rfl, rfl⟩ | ⟨hq, rfl⟩⟩
  all_goals repeat' (first
    | exact hp
    | refine br_t (by first | assumption | decide) ?_
    | refine br_f (by first | assumption | decide) ?_
    | refine nm_r (e' := 0) (by decide) ?_
    | refine nm_r (e' := 1) (by decide) ?_
    | refine nm_r (e' := 2) (by decide) ?_
    | refine nm_r (e' := -1) (by decide) ?_
    | refine br_c (fun _ => ?_) (fun _ => ?_))
theorem ac_tK {post : Int32 → St0 → Prop} {mc ms kc ks : Nat} {x t q one f sd z sz b : Int32} (hp : post 1 ())
    (hz : (z = 0 ∧ one = -1 ∧ sz = 1) ∨ (z = 1 ∧ one = 0 ∧ sz = 2))
    (hb : (x = 0 ∧ b = 4) ∨ (x = 1 ∧ t < 0 ∧ b = 4) ∨ (x = 1 ∧ ¬ t < 0 ∧ sz ≤ t ∧ b = 4) ∨ (x = 1 ∧ ¬ t < 0 ∧ ¬ sz ≤ t ∧ b = 0) ∨ (x = 2 ∧ b = 0))
    (hf : (q = z ∧ f = b) ∨ (¬ q = z ∧ f = 0))
    (hs : (sd = 1 ∧ b = 0) ∨ (sd = 0 ∧ ¬ b = 0)) :
    wL_lawOf_82 post mc ms x t q one z f sd sd z z kc ks := by
  rcases hb with ⟨rfl, rfl⟩ | ⟨rfl, ht, rfl⟩ | ⟨rfl, ht, ht2, rfl⟩ | ⟨rfl, ht, ht2, rfl⟩ | ⟨rfl, rfl⟩
  all_goals rcases hs with ⟨rfl, hs⟩ | ⟨rfl, hs⟩
  all_goals first
    | exact absurd hs (by decide)
    | exact absurd rfl hs
    | skip
  all_goals rcases hz with ⟨rfl, rfl, rfl⟩ | ⟨rfl, rfl, rfl⟩
  all_goals rcases hf with ⟨rfl, rfl⟩ | ⟨hq, rfl⟩
  all_goals repeat' (first
    | exact hp
    | refine br_t (by first | assumption | decide) ?_
    | refine br_f (by first | assumption | decide) ?_
    | refine nm_r (e' := 0) (by decide) ?_
    | refine nm_r (e' := 1) (by decide) ?_
    | refine nm_r (e' := 2) (by decide) ?_
    | refine nm_r (e' := -1) (by decide) ?_
    | refine br_c (fun _ => ?_) (fun _ => ?_))
end
section
theorem ac_nG {c1 c2 c3 c4 A B : Prop} (h : ¬ (¬ c1 ∧ ¬ c2 ∧ ¬ c3 ∧ ¬ c4)) (a : A) : (c1 → A) ∧ (¬ c1 → ((c2 → A) ∧ (¬ c2 → ((c3 → A) ∧ (¬ c3 → ((c4 → A) ∧ (¬ c4 → B))))))) :=
  br_c (fun _ => a) (fun n1 => br_c (fun _ => a) (fun n2 => br_c (fun _ => a) (fun n3 => br_c (fun _ => a) (fun n4 => absurd ⟨n1, n2, n3, n4⟩ h))))
theorem ac_34 (v : Int32) : 4 ≤ v ↔ 3 < v := by
  rw [Int32.le_iff_toInt_le, Int32.lt_iff_toInt_lt, show (4 : Int32).toInt = 4 by decide, show (3 : Int32).toInt = 3 by decide]
  omega
theorem ac_45p (v : Int32) : 5 ≤ v ↔ 4 < v := by
  rw [Int32.le_iff_toInt_le, Int32.lt_iff_toInt_lt, show (5 : Int32).toInt = 5 by decide, show (4 : Int32).toInt = 4 by decide]
  omega
theorem ac_x {x : Int32} (h0 : ¬ x < 0) (h2 : ¬ 2 < x) : x = 0 ∨ x = 1 ∨ x = 2 := by
  obtain ⟨j, hj, rfl⟩ := nI_of2 (M := 2) (n := 2) (by decide) h0 (Int32.not_lt.mp h2)
  have : j = 0 ∨ j = 1 ∨ j = 2 := by omega
  rcases this with rfl | rfl | rfl
  · exact .inl rfl
  · exact .inr (.inl rfl)
  · exact .inr (.inr rfl)
theorem ac_ff {k : Nat} {a1 a4 : Nat → Int32} {q f : Int32} (hk : k ≤ 2) (h : ac_Ff k a1 a4 q f) : f = 0 ∨ ∃ j, j < k ∧ q = nI j ∧ f = ac_V (nI k) (a1 j) (a4 j) (nI j) := by
  by_cases c : q < 0
  · exact .inl (h.1 (.inl c))
  · by_cases d : nI k ≤ q
    · exact .inl (h.1 (.inr d))
    · obtain ⟨j, hj, e, _, _, _⟩ := pk_mu c d (by omega)
      exact .inr ⟨j, hj, e, h.2 j hj e⟩
theorem ac_ss {k : Nat} {a1 a4 : Nat → Int32} {r s : Int32} (h : ac_Fs k a1 a4 r) (g : ac_Fs k a1 a4 s) : s = r := by
  rcases h with ⟨rfl, h⟩ | ⟨rfl, h⟩ <;> rcases g with ⟨rfl, g⟩ | ⟨rfl, g⟩
  · rfl
  · exact absurd h g
  · exact absurd g h
  · rfl
/-- what a flow at place g (the last one) is worth -/
theorem ac_b {x t : Int32} (g : Nat) (sz : Int32) (hx : x = 0 ∨ x = 1 ∨ x = 2) (hg : (g = 0 ∧ sz = 1) ∨ (g = 1 ∧ sz = 2)) :
    (x = 0 ∧ ac_V sz (5 + x).toInt8.toInt32 t (nI g) = 4) ∨ (x = 1 ∧ t < 0 ∧ ac_V sz (5 + x).toInt8.toInt32 t (nI g) = 4) ∨ (x = 1 ∧ ¬ t < 0 ∧ sz ≤ t ∧ ac_V sz (5 + x).toInt8.toInt32 t (nI g) = 4) ∨ (x = 1 ∧ ¬ t < 0 ∧ ¬ sz ≤ t ∧ ac_V sz (5 + x).toInt8.toInt32 t (nI g) = 0) ∨ (x = 2 ∧ ac_V sz (5 + x).toInt8.toInt32 t (nI g) = 0) := by
  rcases hx with rfl | rfl | rfl
  · refine .inl ⟨rfl, ?_⟩
    rw [show ((5 : Int32) + 0).toInt8.toInt32 = 5 by decide, ac_V, if_neg (by decide), if_neg (by decide), if_pos rfl, if_pos]
    rcases hg with ⟨rfl, rfl⟩ | ⟨rfl, rfl⟩
    · exact .inr (.inr (by decide))
    · exact .inr (.inr (by decide))
  · rw [show ((5 : Int32) + 1).toInt8.toInt32 = 6 by decide, ac_V, if_neg (by decide), if_pos rfl]
    by_cases c : t < 0
    · exact .inr (.inl ⟨rfl, c, if_pos (.inl c)⟩)
    · by_cases d : sz ≤ t
      · exact .inr (.inr (.inl ⟨rfl, c, d, if_pos (.inr d)⟩))
      · exact .inr (.inr (.inr (.inl ⟨rfl, c, d, if_neg (fun z => z.elim c d)⟩)))
  · refine .inr (.inr (.inr (.inr ⟨rfl, ?_⟩)))
    rw [show ((5 : Int32) + 2).toInt8.toInt32 = 7 by decide, ac_V, if_pos rfl]
theorem ac_op {x : Int32} (hx : x = 0 ∨ x = 1 ∨ x = 2) : (5 + x).toInt8.toInt32 ≠ 1 ∧ (5 + x).toInt8.toInt32 ≠ 3 := by
  rcases hx with rfl | rfl | rfl
  · decide
  · decide
  · decide
theorem ac_lawOf (v p x t q : Int32) : wpL_lawOf (fun r _ => r = 1) 11 143 () v p x t q := by
  unfold wpL_lawOf
  refine ⟨by decide, by decide, 10, 125, by decide, by decide, ?_⟩
  unfold wpX_init
  refine ⟨by decide, by decide, by decide, by decide, by decide, by decide, by decide, by decide, by decide, by decide, by decide, by decide, by decide, by decide, by decide, by decide, by decide, by decide, by decide, by decide, ?_⟩
  refine ac_set (k := 0) (by decide) (fun hG b2 b3 => ?_) (fun hG => ?_)
  · rw [ac_34, ac_45p] at hG
    refine ac_flow (k := 1) (by decide) (fun x0 x2 c2 c3 => ?_) (fun hx => ?_)
    · have hx := ac_x x0 x2
      have hP : ac_P 2 (upd (upd (fun _ => 0) 0 0) 1 (5 + x).toInt8.toInt32) := by
        refine ⟨by decide, fun _ => rfl, fun j hj => ?_⟩
        have hj' : j = 0 ∨ j = 1 := by omega
        rcases hj' with rfl | rfl
        · rw [pk_un (by decide), pk_us]
          decide
        · rw [pk_us]
          exact ac_op hx
      refine ac_faults (k := 2) hP (.inl rfl) (fun f c w b5 b6 b7 b8 hf hC => ?_)
      refine ac_sound (k := 2) hP hC (fun sd c w b5 b6 b7 b8 hs hC => ?_)
      refine ac_start (k := 2) hP hC (fun on c w s p h f' o b5 b6 b7 b8 b9 hs2 => ?_)
      refine ac_drop (k := 2) (by decide) (fun n u _ hn => ?_)
      have en : n = 1 := hn 1 rfl
      have eo : on = sd := ac_ss hs hs2
      subst en eo
      refine br_f hG.1 (br_f hG.2.1 (br_f hG.2.2.1 (br_f hG.2.2.2 ?_)))
      have V0 : ac_V (nI 2) 0 t (nI 0) = 0 := by
        rw [ac_V, if_neg (by decide), if_neg (by decide), if_neg (by decide), if_neg (by decide)]
      refine ac_tK (z := 1) (sz := 2) rfl (.inr ⟨rfl, rfl, rfl⟩) (ac_b 1 2 hx (.inr ⟨rfl, rfl⟩)) ?_ ?_
      · by_cases eq : q = 1
        · exact .inl ⟨eq, hf.2 1 (by decide) eq⟩
        · refine .inr ⟨eq, ?_⟩
          rcases ac_ff (by decide) hf with h0 | ⟨j, hj, e, h0⟩
          · exact h0
          · have hj' : j = 0 := by
              have : j ≠ 1 := fun z => eq (by rw [e, z]; rfl)
              omega
            subst hj'
            rw [h0]
            exact V0
      · rcases hs with ⟨rfl, hg⟩ | ⟨rfl, hg⟩
        · exact .inl ⟨rfl, hg.2 1 (by decide)⟩
        · refine .inr ⟨rfl, fun z => hg ⟨by decide, fun j hj => ?_⟩⟩
          have hj' : j = 0 ∨ j = 1 := by omega
          rcases hj' with rfl | rfl
          · exact V0
          · exact z
    · have hP : ac_P 1 (upd (fun _ => 0) 0 0) := by
        refine ⟨by decide, fun z => absurd z (by decide), fun j hj => ?_⟩
        have hj' : j = 0 := by omega
        subst hj'
        rw [pk_us]
        decide
      have V0 : ac_V (nI 1) 0 t (nI 0) = 4 := by
        rw [ac_V, if_neg (by decide), if_neg (by decide), if_neg (by decide), if_pos (by decide)]
      refine ac_faults (k := 1) hP (.inl rfl) (fun f c w b5 b6 b7 b8 hf hC => ?_)
      refine ac_sound (k := 1) hP hC (fun sd c w b5 b6 b7 b8 hs hC => ?_)
      refine ac_start (k := 1) hP hC (fun on c w s p h f' o b5 b6 b7 b8 b9 hs2 => ?_)
      refine ac_drop (k := 1) (by decide) (fun n u _ hn => ?_)
      have en : n = 0 := hn 0 rfl
      have eo : on = sd := ac_ss hs hs2
      have es : sd = 0 := by
        rcases hs with ⟨_, hg⟩ | ⟨h0, _⟩
        · have z : ac_V (nI 1) 0 t (nI 0) = 0 := hg.2 0 (by decide)
          rw [V0] at z
          exact absurd z (by decide)
        · exact h0
      subst en eo
      subst es
      refine br_f hG.1 (br_f hG.2.1 (br_f hG.2.2.1 (br_f hG.2.2.2 ?_)))
      refine ac_tU (z := 1) rfl hx (.inr ⟨rfl, rfl, rfl, ?_⟩)
      by_cases eq : q = 0
      · exact .inl ⟨eq, (hf.2 0 (by decide) eq).trans V0⟩
      · refine .inr ⟨eq, ?_⟩
        rcases ac_ff (by decide) hf with h0 | ⟨j, hj, e, h0⟩
        · exact h0
        · have hj' : j = 0 := by omega
          exact absurd (by rw [e, hj']; rfl) eq
  · rw [ac_34, ac_45p] at hG
    refine ac_flow (k := 0) (by decide) (fun x0 x2 c2 c3 => ?_) (fun hx => ?_)
    · have hx := ac_x x0 x2
      have hP : ac_P 1 (upd (fun _ => 0) 0 (5 + x).toInt8.toInt32) := by
        refine ⟨by decide, fun z => absurd z (by decide), fun j hj => ?_⟩
        have hj' : j = 0 := by omega
        subst hj'
        rw [pk_us]
        exact ac_op hx
      refine ac_faults (k := 1) hP (.inl rfl) (fun f c w b5 b6 b7 b8 hf hC => ?_)
      refine ac_sound (k := 1) hP hC (fun sd c w b5 b6 b7 b8 hs hC => ?_)
      refine ac_start (k := 1) hP hC (fun on c w s p h f' o b5 b6 b7 b8 b9 hs2 => ?_)
      refine ac_drop (k := 1) (by decide) (fun n u _ hn => ?_)
      have en : n = 0 := hn 0 rfl
      have eo : on = sd := ac_ss hs hs2
      subst en eo
      refine ac_nG hG ?_
      refine ac_tK (z := 0) (sz := 1) rfl (.inl ⟨rfl, rfl, rfl⟩) (ac_b 0 1 hx (.inl ⟨rfl, rfl⟩)) ?_ ?_
      · by_cases eq : q = 0
        · exact .inl ⟨eq, hf.2 0 (by decide) eq⟩
        · refine .inr ⟨eq, ?_⟩
          rcases ac_ff (by decide) hf with h0 | ⟨j, hj, e, h0⟩
          · exact h0
          · have hj' : j = 0 := by omega
            exact absurd (by rw [e, hj']; rfl) eq
      · rcases hs with ⟨rfl, hg⟩ | ⟨rfl, hg⟩
        · exact .inl ⟨rfl, hg.2 0 (by decide)⟩
        · refine .inr ⟨rfl, fun z => hg ⟨by decide, fun j hj => ?_⟩⟩
          have hj' : j = 0 := by omega
          subst hj'
          exact z
    · have hP : ac_P 0 (fun _ => 0) := ⟨by decide, fun z => absurd z (by decide), fun j hj => absurd hj (by omega)⟩
      refine ac_faults (k := 0) hP (.inl rfl) (fun f c w b5 b6 b7 b8 hf hC => ?_)
      refine ac_sound (k := 0) hP hC (fun sd c w b5 b6 b7 b8 hs hC => ?_)
      refine ac_start (k := 0) hP hC (fun on c w s p h f' o b5 b6 b7 b8 b9 hs2 => ?_)
      refine ac_drop (k := 0) (by decide) (fun n u hn _ => ?_)
      have en : n = -1 := hn rfl
      have eo : on = sd := ac_ss hs hs2
      have es : sd = 0 := by
        rcases hs with ⟨_, hg⟩ | ⟨h0, _⟩
        · exact absurd hg.1 (by decide)
        · exact h0
      have ef : f = 0 := by
        rcases ac_ff (by decide) hf with h0 | ⟨j, hj, e, h0⟩
        · exact h0
        · exact absurd hj (by omega)
      subst en eo
      subst es
      subst ef
      refine ac_nG hG ?_
      exact ac_tU (z := 0) rfl hx (.inl ⟨rfl, rfl, rfl, rfl⟩)
theorem ac_cell {post : Int32 → Prop} {L : Nat} {xs : Nat → Int32} {u : St0} {y : Int32} (i : Nat) (hL : L ≤ 5) (hi : i < 5) (hy : y = nI i) (H : ∀ r, post r) : wpL_cellAt post L xs u y := by
  subst hy
  exact pk_le L i (fun _ => H 0) (fun z => ⟨pk_in i L z, H _⟩)
theorem i_vc (xs : Nat → Int32) (L : Nat) (hL : L ≤ 5) : wpL_law (fun r => r = 1) L xs := by
  unfold wpL_law
  refine ac_cell 0 hL (by decide) rfl (fun r1 => ?_)
  refine ac_cell 1 hL (by decide) rfl (fun r2 => ?_)
  refine ac_cell 2 hL (by decide) rfl (fun r3 => ?_)
  refine ac_cell 3 hL (by decide) rfl (fun r4 => ?_)
  refine ac_cell 4 hL (by decide) rfl (fun r5 => ?_)
  exact ⟨11, 143, by decide, by decide, ac_lawOf r1 r2 r3 r4 r5⟩
end
