section
/-- the place of player 0 after the move m, the other one at place 7 -/
def rg_mv (p m : Nat) : Nat := if m = 1 then p - 1 else if m = 2 then (if p = 6 then 6 else p + 1) else p
theorem rg_mv_lt {p m : Nat} (hp : p < 7) : rg_mv p m < 7 := by
  unfold rg_mv
  split
  · omega
  · split
    · split <;> omega
    · exact hp
theorem rg_c0 : (0 : Int32).toNatClampNeg = 0 := by decide
theorem rg_c1 : (1 : Int32).toNatClampNeg = 1 := by decide
theorem rg_c10 : ((1 : Int32) - 0).toNatClampNeg = 1 := by decide
theorem rg_c11 : ((1 : Int32) - 1).toNatClampNeg = 0 := by decide
theorem rg_v0 : vp_in (0 : Int32) 2 := vp_in_iff.mpr (by decide)
theorem rg_v1 : vp_in (1 : Int32) 2 := vp_in_iff.mpr (by decide)
theorem rg_v10 : vp_in ((1 : Int32) - 0) 2 := vp_in_iff.mpr (by decide)
theorem rg_v11 : vp_in ((1 : Int32) - 1) 2 := vp_in_iff.mpr (by decide)
theorem rg_b8 : ∀ q, q < 8 → (nI q).toInt8.toInt32 = nI q := by decide +kernel
theorem rg_o1 : ∀ p, p < 7 → ¬ ((nI (5570 + p) / 100) - (nI (5570 + p) / 100) / 10 * 10) = 0 := by decide +kernel
theorem rg_o2 : ∀ p, p < 7 → ¬ ((nI (5570 + p) / 1000) - (nI (5570 + p) / 1000) / 10 * 10) = 0 := by decide +kernel
theorem rg_l0 : ∀ p, p < 7 → ((nI (5570 + p) - nI (5570 + p) / 10 * 10).toInt8.toInt32) = nI p := by decide +kernel
theorem rg_l1 : ∀ p, p < 7 → (((nI (5570 + p) / 10) - (nI (5570 + p) / 10) / 10 * 10).toInt8.toInt32) = nI 7 := by decide +kernel
theorem rg_l2 : ∀ p, p < 7 → (((nI (5570 + p) / 100) - (nI (5570 + p) / 100) / 10 * 10).toInt8.toInt32) = nI 5 := by decide +kernel
theorem rg_l3 : ∀ p, p < 7 → (((nI (5570 + p) / 1000) - (nI (5570 + p) / 1000) / 10 * 10).toInt8.toInt32) = nI 5 := by decide +kernel
theorem rg_l4 : ∀ p, p < 7 → (((nI (5570 + p) / 10000) - (nI (5570 + p) / 10000) / 10 * 10).toInt8.toInt32) = nI 0 := by decide +kernel
theorem rg_l5 : ∀ p, p < 7 → ((nI (5570 + p) / 100000).toInt8.toInt32) = nI 0 := by decide +kernel
theorem rg_pk : ∀ p, p < 7 → (((((nI p + (10 * nI 7)) + (100 * nI 5)) + (1000 * nI 5)) + (10000 * nI 0)) + (100000 * nI 0)) = nI (5570 + p) := by decide +kernel
/-- two stores, the places 0 and 1 -/
theorem rg_w0 {a : Nat → Int32} {x y z : Int32} (h : x = z) : upd (upd a 0 x) 1 y 0 = z := by
  rw [pk_un (by decide), pk_us, h]
theorem rg_w1 {a : Nat → Int32} {x y z : Int32} (h : y = z) : upd (upd a 0 x) 1 y 1 = z := by
  rw [pk_us, h]
theorem rg_isOver {post : Int32 → Prop} {u : St0} {p : Nat} (hp : p < 7) (H : post 0) : wpX_isOver post u (nI (5570 + p)) :=
  ⟨by decide, by decide, br_f (rg_o1 p hp) ⟨by decide, by decide, br_f (rg_o2 p hp) H⟩⟩
theorem rg_load {post : St2 → Prop} {f : Int32} {a1 a2 a3 a4 a5 a6 : Nat → Int32} {p : Nat} (hp : p < 7)
    (H : ∀ b4 b5 b6 : Nat → Int32, b4 0 = nI p → b4 1 = nI 7 → b5 0 = nI 5 → b5 1 = nI 5 → b6 0 = nI 0 → b6 1 = nI 0 → post (f, a1, a2, a3, b4, b5, b6)) :
    wpX_load post (f, a1, a2, a3, a4, a5, a6) (nI (5570 + p)) := by
  unfold wpX_load
  exact ⟨by decide, nm_e ⟨by decide, by decide, nm_e ⟨by decide, by decide, nm_e ⟨by decide, by decide, nm_e ⟨by decide, by decide, nm_e ⟨by decide, nm_e (H _ _ _ (rg_w0 (rg_l0 p hp)) (rg_w1 (rg_l1 p hp)) (rg_w0 (rg_l2 p hp)) (rg_w1 (rg_l3 p hp)) (rg_w0 (rg_l4 p hp)) (rg_w1 (rg_l5 p hp)))⟩⟩⟩⟩⟩⟩
theorem rg_go36 {post : St2 → Prop} {f : Int32} {a1 a2 a3 a4 a5 a6 : Nat → Int32} {p q r : Nat} (hq : q < 8) (h0 : a4 0 = nI p) (h1 : a4 1 = nI 7) (hr : r = if q = 7 then p else q)
    (H : ∀ b4 : Nat → Int32, b4 0 = nI r → b4 1 = nI 7 → post (f, a1, a2, a3, b4, a5, a6)) :
    wX_go_36 post 0 (nI q) f a1 a2 a3 a4 a5 a6 := by
  unfold wX_go_36
  refine ⟨rg_v10, ?_⟩
  rw [rg_c10, h1, rg_c0, rg_b8 q hq]
  refine pk_eq q 7 (fun z => H a4 ?_ h1) (fun z => ⟨rg_v0, nm_e (H _ ?_ ?_)⟩)
  · rw [hr, if_pos z]
    exact h0
  · rw [hr, if_neg z, pk_us]
  · rw [pk_un (by decide), h1]
theorem rg_go22 {post : St2 → Prop} {f : Int32} {a1 a2 a3 a4 a5 a6 : Nat → Int32} {p m r : Nat} (hp : p < 7) (hm : m < 3) (h0 : a4 0 = nI p) (h1 : a4 1 = nI 7) (hr : r = if m = 2 then (if p = 6 then 6 else p + 1) else p)
    (H : ∀ b4 : Nat → Int32, b4 0 = nI r → b4 1 = nI 7 → post (f, a1, a2, a3, b4, a5, a6)) :
    wX_go_22 post 0 (nI m) (nI p) f a1 a2 a3 a4 a5 a6 := by
  unfold wX_go_22
  refine pk_eq m 2 (fun z => pk_le 9 p (fun g => absurd g (by omega)) (fun _ => nm_r (nI_1 p) (rg_go36 (r := r) (by omega) h0 h1 ?_ H))) (fun z => rg_go36 (r := r) (by omega) h0 h1 ?_ H)
  · rw [hr, if_pos z]
    split <;> split <;> omega
  · rw [hr, if_neg z]
    split <;> omega
theorem rg_go0 {post : St2 → Prop} {f : Int32} {a1 a2 a3 a4 a5 a6 : Nat → Int32} {p m : Nat} (hp : p < 7) (hm : m < 3) (h0 : a4 0 = nI p) (h1 : a4 1 = nI 7)
    (H : ∀ b4 : Nat → Int32, b4 0 = nI (rg_mv p m) → b4 1 = nI 7 → post (f, a1, a2, a3, b4, a5, a6)) :
    wpX_go post (f, a1, a2, a3, a4, a5, a6) 0 (nI m) := by
  unfold wpX_go
  dsimp only
  rw [rg_c0]
  refine ⟨rg_v0, nm_r h0 ?_⟩
  refine pk_eq m 1 (fun z => pk_le p 0 (fun g => rg_go22 (r := rg_mv p m) hp hm h0 h1 ?_ H) (fun g => nm_r (sb_m1 g) (rg_go36 (r := rg_mv p m) (by omega) h0 h1 ?_ H))) (fun z => rg_go22 (r := rg_mv p m) hp hm h0 h1 ?_ H)
  · unfold rg_mv
    rw [if_pos z, if_neg (show ¬ m = 2 by omega)]
    omega
  · unfold rg_mv
    rw [if_pos z, if_neg (show ¬ p - 1 = 7 by omega)]
  · unfold rg_mv
    rw [if_neg z]
theorem rg_go1 {post : St2 → Prop} {f : Int32} {a1 a2 a3 a4 a5 a6 : Nat → Int32} {r : Nat} (hr : r < 7) (h0 : a4 0 = nI r) (h1 : a4 1 = nI 7)
    (H : ∀ b4 : Nat → Int32, b4 0 = nI r → b4 1 = nI 7 → post (f, a1, a2, a3, b4, a5, a6)) :
    wpX_go post (f, a1, a2, a3, a4, a5, a6) 1 0 := by
  unfold wpX_go
  dsimp only
  rw [rg_c1]
  refine ⟨rg_v1, nm_r h1 (br_f (by decide) ?_)⟩
  unfold wX_go_22
  refine br_f (by decide) ?_
  unfold wX_go_36
  rw [rg_c11, h0, rg_c1, rg_b8 7 (by decide)]
  refine ⟨rg_v11, pk_eq 7 r (fun z => absurd z (by omega)) (fun z => ⟨rg_v1, nm_e (H _ ?_ ?_)⟩)⟩
  · rw [pk_un (by decide), h0]
  · rw [pk_us]
theorem rg_strike {post : St2 → Prop} {f : Int32} {a1 a2 a3 a4 a5 a6 : Nat → Int32} {p x z : Int32} (hx : ¬ x = 3) (H : post (f, a1, a2, a3, a4, a5, a6)) :
    wpX_strike post (f, a1, a2, a3, a4, a5, a6) p x z := by
  unfold wpX_strike
  exact br_f hx H
theorem rg_148 {post : Int32 → St2 → Prop} {f : Int32} {a1 a2 a3 a4 a5 a6 : Nat → Int32} {r m : Nat} {z : Int32} (hr : r < 7) (hm : m < 3)
    (h40 : a4 0 = nI r) (h41 : a4 1 = nI 7) (h50 : a5 0 = nI 5) (h51 : a5 1 = nI 5) (h60 : a6 0 = nI 0) (h61 : a6 1 = nI 0)
    (H : post (nI (5570 + r)) (f, a1, a2, a3, a4, a5, a6)) :
    wX_step_148 post (nI m) 0 z f a1 a2 a3 a4 a5 a6 := by
  unfold wX_step_148
  refine rg_strike (fun e => ?_) ?_
  · have e' : nI m = nI 3 := e
    rw [nI_eq (by omega) (by omega)] at e'
    omega
  · refine rg_strike (by decide) ?_
    unfold wpX_pack
    dsimp only
    rw [h40, h41, h50, h51, h60, h61, rg_pk r hr]
    exact H
theorem rg_100 {post : Int32 → St2 → Prop} {f : Int32} {a1 a2 a3 a4 a5 a6 : Nat → Int32} {p m : Nat} (hp : p < 7) (hm : m < 3)
    (h40 : a4 0 = nI p) (h41 : a4 1 = nI 7) (h50 : a5 0 = nI 5) (h51 : a5 1 = nI 5) (h60 : a6 0 = nI 0)
    (H : ∀ b4 b5 b6 : Nat → Int32, post (nI (5570 + rg_mv p m)) (f, a1, a2, a3, b4, b5, b6)) :
    wX_step_100 post (nI m) 0 0 1 f a1 a2 a3 a4 a5 a6 := by
  unfold wX_step_100
  rw [rg_c1]
  refine ⟨rg_v1, fun b6 e6 => ?_⟩
  have g60 : b6 0 = nI 0 := by rw [e6, pk_un (by decide), h60]
  have g61 : b6 1 = nI 0 := by rw [e6, pk_us]; decide
  refine rg_go0 hp hm h40 h41 (fun b4 g40 g41 => ?_)
  refine rg_go1 (rg_mv_lt hp) g40 g41 (fun c4 c40 c41 => ?_)
  have K : ∀ z : Int32, wX_step_148 post (nI m) 0 z f a1 a2 a3 c4 a5 b6 := fun z => rg_148 (rg_mv_lt hp) hm c40 c41 h50 h51 g60 g61 (H c4 a5 b6)
  exact nm_e (br_c (fun _ => K 0) (fun _ => br_c (fun _ => K 0) (fun _ => K 1)))
/-- one frame: player 0 makes the move m, player 1 rests; the field stays of the form 5570 + place -/
theorem rg_step {post : Int32 → St2 → Prop} {f : Int32} {a1 a2 a3 a4 a5 a6 : Nat → Int32} {p m : Nat} (hp : p < 7) (hm : m < 3)
    (H : ∀ b4 b5 b6 : Nat → Int32, post (nI (5570 + rg_mv p m)) (f, a1, a2, a3, b4, b5, b6)) :
    wpX_step post (f, a1, a2, a3, a4, a5, a6) (nI (5570 + p)) (nI m) 0 := by
  unfold wpX_step
  dsimp only
  refine rg_isOver hp (br_t rfl (rg_load hp (fun b4 b5 b6 h40 h41 h50 h51 h60 h61 => ?_)))
  dsimp only
  refine br_t (by rw [h60]; decide) ?_
  unfold wX_step_28
  refine br_t (by rw [h61]; decide) ?_
  unfold wX_step_44
  refine br_t (by rw [h60]; decide) ?_
  unfold wX_step_72
  rw [rg_c0]
  refine ⟨rg_v0, fun c6 e6 => ?_⟩
  have g60 : c6 0 = nI 0 := by rw [e6, pk_us]; decide
  have g61 : c6 1 = nI 0 := by rw [e6, pk_un (by decide), h61]
  exact br_t (by rw [g61]; decide) (rg_100 hp hm h40 h41 h50 h51 g60 H)
end
section
/-- the loop of replay, upTo = 40: the places g from frame i0 on; every saved field of a frame played differs from the old one -/
theorem rg_replay8 {post : Int32 → St2 → Prop} {a1 a2 a3 a4 a5 a6 : Nat → Int32} {pc i0 m : Nat} {g : Nat → Nat} (hpc : pc < 100) (hi0 : i0 ≤ 40) (hm : m < 3)
    (h2 : ∀ j, i0 ≤ j → j < 40 → a2 j = nI m) (hz : ∀ j, j < 40 → a2 (40 + j) = 0) (hg : ∀ j, j ≤ 40 → g j < 7)
    (hs : ∀ j, i0 ≤ j → j < 40 → g (j + 1) = rg_mv (g j) m) (h3 : ∀ j, j ≤ i0 → a3 j = nI (5570 + g j))
    (hd : ∀ j, i0 ≤ j → j + 1 ≤ pc → ¬ nI (5570 + g (j + 1)) = a3 (j + 1))
    (H : ∀ b3 b4 b5 b6 : Nat → Int32, (∀ j, j ≤ 40 → b3 j = nI (5570 + g j)) → post (nI (min 40 pc - i0)) (nI pc, a1, a2, b3, b4, b5, b6)) :
    ∃ n, wX_replay_8 post (nI 40) n (nI (min i0 pc - i0)) 1 (nI i0) (nI pc) a1 a2 a3 a4 a5 a6 := by
  refine pk_loop (σ := Int32 × (Nat → Int32) × (Nat → Int32) × (Nat → Int32) × (Nat → Int32)) (fun n i s => wX_replay_8 post (nI 40) n (nI (min i pc - i0)) s.1 (nI i) (nI pc) a1 a2 s.2.1 s.2.2.1 s.2.2.2.1 s.2.2.2.2) (fun i s => i0 ≤ i ∧ (∀ j, j ≤ i → s.2.1 j = nI (5570 + g j)) ∧ (∀ j, i < j → s.2.1 j = a3 j)) 40 i0 (1, a3, a4, a5, a6) hi0 ⟨Nat.le_refl i0, h3, fun j _ => rfl⟩ ?_ ?_
  · intro n s hI
    obtain ⟨x4, b3, b4, b5, b6⟩ := s
    obtain ⟨k1, k2, k3⟩ := hI
    exact pk_le 40 40 (fun _ => H b3 b4 b5 b6 k2) (fun z => absurd z (by omega))
  · intro n i s hi hI hw
    obtain ⟨x4, b3, b4, b5, b6⟩ := s
    obtain ⟨k1, k2, k3⟩ := hI
    dsimp only at k2 k3
    show wX_replay_8 post (nI 40) (n + 1) (nI (min i pc - i0)) x4 (nI i) (nI pc) a1 a2 b3 b4 b5 b6
    refine pk_le 40 i (fun z => absurd z (by omega)) (fun _ => pk_lt i 40 (fun _ => ?_) (fun z => absurd z (by omega)))
    unfold wX_replay_26
    refine ⟨pk_in i 41 (by omega), pk_in i 80 (by omega), pk_in (40 + i) 80 (by omega) (nI_add 40 i), ?_⟩
    rw [nI_clamp (show i < 2 ^ 31 by omega), show ((40 : Int32) + nI i).toNatClampNeg = 40 + i from pk_cl (40 + i) (nI_add 40 i), k2 i (Nat.le_refl i), h2 i k1 hi, hz i hi]
    refine rg_step (hg i (by omega)) hm (fun c4 c5 c6 => ?_)
    dsimp only
    rw [← hs i k1 hi, show (nI i + 1).toNatClampNeg = i + 1 from pk_cl (i + 1) (nI_1 i), k3 (i + 1) (by omega)]
    refine ⟨pk_in (i + 1) 41 (by omega) (nI_1 i), ?_⟩
    have K : ∀ y4 : Int32, wX_replay_8 post (nI 40) n (nI (min (i + 1) pc - i0)) y4 (nI (i + 1)) (nI pc) a1 a2 (upd b3 (i + 1) (nI (5570 + g (i + 1)))) c4 c5 c6 := by
      intro y4
      refine hw (y4, upd b3 (i + 1) (nI (5570 + g (i + 1))), c4, c5, c6) ⟨by omega, fun j hj => ?_, fun j hj => ?_⟩
      · dsimp only
        by_cases e : j = i + 1
        · rw [e, pk_us]
        · rw [pk_un e]
          exact k2 j (by omega)
      · dsimp only
        rw [pk_un (by omega)]
        exact k3 j (by omega)
    have T : ∀ (y4 z0 : Int32), nI (min i pc - i0) + z0 = nI (min (i + 1) pc - i0) → wX_replay_99 post (wX_replay_8 post (nI 40) n) (nI 40) y4 (nI i) (nI (5570 + g (i + 1))) z0 (nI (min i pc - i0)) (nI pc) a1 a2 b3 c4 c5 c6 := by
      intro y4 z0 e
      unfold wX_replay_99
      rw [show (nI i + 1).toNatClampNeg = i + 1 from pk_cl (i + 1) (nI_1 i)]
      exact nm_r e ⟨pk_in (i + 1) 41 (by omega) (nI_1 i), nm_e (nm_r (nI_1 i) (K y4))⟩
    by_cases hp : i + 1 ≤ pc
    · refine br_f (hd i k1 hp) ?_
      unfold wX_replay_75
      refine br_f (by decide) (pk_lt pc (i + 1) (fun z => absurd z (by omega)) (fun _ => T 1 1 ?_) rfl (nI_1 i))
      rw [nI_1]
      congr 1
      omega
    · have T0 : ∀ y4 : Int32, wX_replay_98 post (wX_replay_8 post (nI 40) n) (nI 40) y4 (nI i) (nI (5570 + g (i + 1))) (nI (min i pc - i0)) (nI pc) a1 a2 b3 c4 c5 c6 := by
        intro y4
        unfold wX_replay_98
        refine T y4 0 ?_
        rw [Int32.add_zero]
        congr 1
        omega
      refine br_c (fun _ => ?_) (fun _ => ?_)
      · unfold wX_replay_75
        exact br_t rfl (T0 0)
      · unfold wX_replay_75
        exact br_f (by decide) (pk_lt pc (i + 1) (fun _ => T0 1) (fun z => absurd z (by omega)) rfl (nI_1 i))
theorem rg_replay {post : Int32 → St2 → Prop} {a1 a2 a3 a4 a5 a6 : Nat → Int32} {pc i0 m : Nat} {g : Nat → Nat} (hpc : pc ≤ 40) (hi0 : i0 ≤ 40) (hm : m < 3)
    (h2 : ∀ j, i0 ≤ j → j < 40 → a2 j = nI m) (hz : ∀ j, j < 40 → a2 (40 + j) = 0) (hg : ∀ j, j ≤ 40 → g j < 7)
    (hs : ∀ j, i0 ≤ j → j < 40 → g (j + 1) = rg_mv (g j) m) (h3 : ∀ j, j ≤ i0 → a3 j = nI (5570 + g j))
    (hd : ∀ j, i0 ≤ j → j + 1 ≤ pc → ¬ nI (5570 + g (j + 1)) = a3 (j + 1))
    (H : ∀ b3 b4 b5 b6 : Nat → Int32, (∀ j, j ≤ 40 → b3 j = nI (5570 + g j)) → post (nI (pc - i0)) (nI pc, a1, a2, b3, b4, b5, b6)) :
    wpX_replay post (nI pc, a1, a2, a3, a4, a5, a6) (nI i0) (nI 40) := by
  have h := rg_replay8 (post := post) (a1 := a1) (a4 := a4) (a5 := a5) (a6 := a6) (by omega) hi0 hm h2 hz hg hs h3 hd (fun b3 b4 b5 b6 hb => by
    rw [show min 40 pc = pc by omega]
    exact H b3 b4 b5 b6 hb)
  rw [show min i0 pc - i0 = 0 by omega] at h
  exact h
theorem rg_z (x : Int32) : (0 : Int32) * 40 + x = x := by
  rw [Int32.zero_mul, Int32.zero_add]
theorem rg_guess {post : Int32 → Prop} {f : Int32} {a1 a2 a3 a4 a5 a6 : Nat → Int32} {i m : Nat} (hi : i < 40) (hm : m < 3) (h2 : a2 i = nI m) (H : post (nI m)) :
    wpX_guess post (f, a1, a2, a3, a4, a5, a6) 0 (nI (i + 1)) := by
  unfold wpX_guess
  dsimp only
  rw [rg_z, nI_pred, nI_clamp (by omega), h2]
  refine br_f (nI_ne0 (by omega) (by omega)) ⟨pk_in i 80 (by omega), ?_⟩
  unfold wX_guess_21
  exact pk_eq m 3 (fun z => absurd z (by omega)) (fun _ => H)
/-- the loop of use: no later move has arrived, each later cell holds another move: all of them change -/
theorem rg_use42 {post : Int32 → St2 → Prop} {f : Int32} {a1 a2 a3 a4 a5 a6 : Nat → Int32} {n m o : Nat} (hn : n < 40) (hm : m < 3) (ho : o < 3) (hmo : o ≠ m)
    (h1 : ∀ j, n < j → j < 40 → a1 j = 0) (h2 : ∀ j, n < j → j < 40 → a2 j = nI o)
    (H : ∀ b2 : Nat → Int32, (∀ j, n ≤ j → j < 40 → b2 j = nI m) → (∀ j, 40 ≤ j → b2 j = a2 j) → post (nI 40) (f, a1, b2, a3, a4, a5, a6)) :
    ∃ k, wX_use_42 post 0 f k (nI (n + 1)) (nI (n + 1)) a1 (upd a2 n (nI m)) a3 a4 a5 a6 := by
  refine pk_loop (fun k i s => wX_use_42 post 0 f k (nI i) (nI i) a1 s a3 a4 a5 a6) (fun i s => n < i ∧ (∀ j, n ≤ j → j < i → s j = nI m) ∧ (∀ j, i ≤ j → s j = a2 j)) 40 (n + 1) (upd a2 n (nI m)) (by omega) ⟨by omega, fun j hj hj2 => ?_, fun j hj => pk_un (by omega)⟩ ?_ ?_
  · rw [show j = n by omega, pk_us]
  · intro k s hI
    obtain ⟨k1, k2, k3⟩ := hI
    exact pk_le 40 40 (fun _ => H s k2 k3) (fun z => absurd z (by omega))
  · intro k i s hi hI hw
    obtain ⟨k1, k2, k3⟩ := hI
    obtain ⟨i', rfl⟩ : ∃ i', i = i' + 1 := ⟨i - 1, by omega⟩
    show wX_use_42 post 0 f (k + 1) (nI (i' + 1)) (nI (i' + 1)) a1 s a3 a4 a5 a6
    refine pk_le 40 (i' + 1) (fun z => absurd z (by omega)) (fun _ => ?_)
    rw [rg_z, nI_clamp (show i' + 1 < 2 ^ 31 by omega), h1 (i' + 1) k1 hi, k3 (i' + 1) (Nat.le_refl _), h2 (i' + 1) k1 hi]
    refine ⟨pk_in (i' + 1) 80 (by omega), br_t rfl (rg_guess (by omega) hm (k2 i' (by omega) (by omega)) ?_)⟩
    refine ⟨pk_in (i' + 1) 80 (by omega), pk_eq o m (fun z => absurd z hmo) (fun _ => ⟨pk_in (i' + 1) 80 (by omega), nm_r (congrArg (upd s (i' + 1)) (rg_b8 m (by omega))) (nm_r (nI_1 _) (nm_r (nI_1 _) ?_))⟩)⟩
    refine hw _ ⟨by omega, fun j hj hj2 => ?_, fun j hj => ?_⟩
    · by_cases e : j = i' + 1
      · rw [e, pk_us]
      · rw [pk_un e]
        exact k2 j hj (by omega)
    · rw [pk_un (by omega)]
      exact k3 j (by omega)
theorem rg_use {post : Int32 → St2 → Prop} {f : Int32} {a1 a2 a3 a4 a5 a6 : Nat → Int32} {n m o : Nat} (hn : n < 40) (hm : m < 3) (ho : o < 3) (hmo : o ≠ m)
    (h1 : ∀ j, n < j → j < 40 → a1 j = 0) (h2 : ∀ j, n ≤ j → j < 40 → a2 j = nI o)
    (H : ∀ b2 : Nat → Int32, (∀ j, n ≤ j → j < 40 → b2 j = nI m) → (∀ j, 40 ≤ j → b2 j = a2 j) → post (nI 40) (f, a1, b2, a3, a4, a5, a6)) :
    wpX_use post (f, a1, a2, a3, a4, a5, a6) 0 (nI n) (nI m) := by
  unfold wpX_use
  dsimp only
  refine nm_r (rg_z (nI n)) ?_
  rw [nI_clamp (show n < 2 ^ 31 by omega), h2 n (Nat.le_refl n) hn]
  refine ⟨pk_in n 80 (by omega), pk_eq o m (fun z => absurd z hmo) (fun _ => ?_)⟩
  unfold wX_use_26
  rw [nI_clamp (show n < 2 ^ 31 by omega), rg_b8 m (by omega), nI_1]
  exact ⟨pk_in n 80 (by omega), nm_e (nm_e (rg_use42 hn hm ho hmo h1 (fun j hj hj2 => h2 j (by omega) hj2) H))⟩
theorem rg_isPlayer {post : Int32 → Prop} {u : St0} (H : post 1) : wpX_isPlayer post u 0 := br_t rfl H
theorem rg_isFrame {post : Int32 → Prop} {u : St0} {n : Nat} (hn : n < 40) (H : post 1) : wpX_isFrame post u (nI n) :=
  br_f (nI_pos (by omega)) (pk_le 40 n (fun z => absurd z (by omega)) (fun _ => H))
/-- a move of player 0 arrives that isn't the one that was guessed -/
theorem rg_arrive {post : Int32 → St2 → Prop} {a1 a2 a3 a4 a5 a6 : Nat → Int32} {pc n m o : Nat} {g : Nat → Nat} (hpc : pc ≤ 40) (hn : n < 40) (hm : m < 3) (ho : o < 3) (hmo : o ≠ m)
    (h1 : ∀ j, n ≤ j → j < 40 → a1 j = 0) (h2 : ∀ j, n ≤ j → j < 40 → a2 j = nI o) (hz : ∀ j, j < 40 → a2 (40 + j) = 0) (hg : ∀ j, j ≤ 40 → g j < 7)
    (hs : ∀ j, n ≤ j → j < 40 → g (j + 1) = rg_mv (g j) m) (h3 : ∀ j, j ≤ n → a3 j = nI (5570 + g j))
    (hd : ∀ j, n ≤ j → j + 1 ≤ pc → ¬ nI (5570 + g (j + 1)) = a3 (j + 1))
    (H : ∀ b2 b3 b4 b5 b6 : Nat → Int32, (∀ j, n ≤ j → j < 40 → b2 j = nI m) → (∀ j, j < 40 → b2 (40 + j) = 0) → (∀ j, j ≤ 40 → b3 j = nI (5570 + g j)) → post (nI (pc - n)) (nI pc, upd a1 n 1, b2, b3, b4, b5, b6)) :
    wpX_arrive post (nI pc, a1, a2, a3, a4, a5, a6) 0 (nI n) (nI m) := by
  unfold wpX_arrive
  dsimp only
  refine rg_isPlayer (br_f (by decide) (rg_isFrame hn (br_f (by decide) (br_f (nI_pos (by omega)) (pk_lt 3 m (fun z => absurd z (by omega)) (fun _ => ?_))))))
  rw [rg_z, nI_clamp (show n < 2 ^ 31 by omega), h1 n (Nat.le_refl n) hn]
  refine ⟨pk_in n 80 (by omega), br_t rfl ⟨pk_in n 80 (by omega), nm_e ?_⟩⟩
  refine rg_use hn hm ho hmo (fun j hj hj2 => ?_) h2 (fun b2 g2 gz => ?_)
  · rw [pk_un (by omega)]
    exact h1 j (by omega) hj2
  · have gz' : ∀ j, j < 40 → b2 (40 + j) = 0 := fun j hj => by rw [gz (40 + j) (by omega)]; exact hz j hj
    exact pk_le 40 n (fun z => absurd z (by omega)) (fun _ => rg_replay hpc (by omega) hm g2 gz' hg hs h3 hd (fun b3 b4 b5 b6 hb => H b2 b3 b4 b5 b6 g2 gz' hb))
end
section
theorem rg_init {post : St2 → Prop} {mc ms : Nat} (hmc : 6 ≤ mc) (hms : 207 ≤ ms)
    (H : ∀ b3 b4 b5 b6 : Nat → Int32, (∀ j, j ≤ 40 → b3 j = nI (5570 + 2)) → post (nI 0, (fun _ => 0), (fun _ => 0), b3, b4, b5, b6)) : wpX_init post mc ms (nI 0) := by
  unfold wpX_init
  refine ⟨by omega, by omega, by omega, by omega, by omega, by omega, by omega, by omega, by omega, by omega, by omega, by omega, nm_e ?_⟩
  refine rg_replay (i0 := 0) (m := 0) (g := fun _ => 2) (by omega) (by omega) (by omega) (fun j _ _ => rfl) (fun j _ => rfl) (fun j _ => by decide) (fun j _ _ => by decide) (fun j hj => ?_) (fun j _ hj => absurd hj (by omega)) (fun b3 b4 b5 b6 hb => H b3 b4 b5 b6 hb)
  rw [show j = 0 by omega, pk_us]
  decide
theorem rg_tick {post : Int32 → St2 → Prop} {a1 a2 a3 a4 a5 a6 : Nat → Int32} {k : Nat} (hk : k < 40) (H : post (nI (k + 1)) (nI (k + 1), a1, a2, a3, a4, a5, a6)) : wpX_tick post (nI k, a1, a2, a3, a4, a5, a6) := by
  unfold wpX_tick
  exact pk_lt k 40 (fun _ => nm_r (nI_1 k) H) (fun z => absurd z (by omega))
theorem rg_position {post : Int32 → St2 → Prop} {a1 a2 a3 a4 a5 a6 : Nat → Int32} {pc p : Nat} (hpc : pc ≤ 40) (hp : p < 7) (h3 : a3 pc = nI (5570 + p))
    (H : ∀ b4 b5 b6 : Nat → Int32, post (nI p) (nI pc, a1, a2, a3, b4, b5, b6)) : wpX_position post (nI pc, a1, a2, a3, a4, a5, a6) 0 := by
  unfold wpX_position
  dsimp only
  refine rg_isPlayer (br_f (by decide) ⟨pk_in pc 41 (by omega), ?_⟩)
  rw [nI_clamp (show pc < 2 ^ 31 by omega), h3]
  refine rg_load hp (fun b4 b5 b6 h40 _ _ _ _ _ => ?_)
  dsimp only
  rw [rg_c0, h40]
  exact ⟨rg_v0, H b4 b5 b6⟩
theorem rg_shown4 {post : Int32 → Prop} {f : Int32} {a1 a2 a3 a4 a5 a6 : Nat → Int32} {x : Int32} (h3 : a3 4 = x) (H : post x) : wpX_shown post (f, a1, a2, a3, a4, a5, a6) 4 := by
  unfold wpX_shown
  dsimp only
  rw [show (4 : Int32).toNatClampNeg = 4 by decide, h3]
  exact br_f (by decide) (br_t (by decide) ⟨vp_in_iff.mpr (by decide), H⟩)
/-- player 0's first missing frame: whatever it is -/
theorem rg_first0 {post : Int32 → Prop} {f : Int32} {a1 a2 a3 a4 a5 a6 : Nat → Int32} (H : ∀ k, k ≤ 40 → post (nI k)) : wpX_firstMissing post (f, a1, a2, a3, a4, a5, a6) 0 := by
  unfold wpX_firstMissing
  dsimp only
  refine pk_loop (σ := Unit) (fun n i _ => wX_firstMissing_2 post 0 f a1 a2 a3 a4 a5 a6 n (nI i)) (fun _ _ => True) 40 0 () (by omega) trivial ?_ ?_
  · intro n s _
    exact pk_le 40 40 (fun _ => H 40 (by omega)) (fun z => absurd z (by omega))
  · intro n i s hi _ hw
    refine pk_le 40 i (fun z => absurd z (by omega)) (fun _ => ⟨pk_in i 80 (by omega) (rg_z (nI i)), ?_⟩)
    exact br_c (fun _ => H i (by omega)) (fun _ => nm_r (nI_1 i) (hw () trivial))
theorem rg_first1 {post : Int32 → Prop} {f : Int32} {a1 a2 a3 a4 a5 a6 : Nat → Int32} (h1 : a1 40 = 0) (H : post 0) : wpX_firstMissing post (f, a1, a2, a3, a4, a5, a6) 1 := by
  unfold wpX_firstMissing
  dsimp only
  refine ⟨1, ?_⟩
  unfold wX_firstMissing_2
  rw [show ((1 : Int32) * 40 + 0).toNatClampNeg = 40 by decide, h1]
  exact br_f (by decide) ⟨vp_in_iff.mpr (by decide), br_t rfl H⟩
theorem rg_sure {post : Int32 → Prop} {f : Int32} {a1 a2 a3 a4 a5 a6 : Nat → Int32} (h1 : a1 40 = 0) (H : post 0) : wpX_sure post (f, a1, a2, a3, a4, a5, a6) := by
  unfold wpX_sure
  dsimp only
  exact rg_first0 (fun k hk => rg_first1 h1 (br_t (nI_pos' (by omega)) H))
theorem rg_settled {post : Int32 → Prop} {a1 a2 a3 a4 a5 a6 : Nat → Int32} {pc p : Nat} (h0 : 0 < pc) (hpc : pc ≤ 40) (hp : p < 7) (h1 : a1 40 = 0) (h3 : a3 0 = nI (5570 + p)) (H : post 0) : wpX_settled post (nI pc, a1, a2, a3, a4, a5, a6) := by
  unfold wpX_settled
  dsimp only
  refine rg_sure h1 (br_f (nI_nle h0 (by omega)) ⟨vp_in_iff.mpr (by decide), ?_⟩)
  rw [rg_c0, h3]
  exact rg_isOver hp (br_t rfl H)
end
section
/-- the places of player 0 after the two arrivals: right up to frame n, then rest (m = 0) or left -/
def rg_g (n m j : Nat) : Nat := if j ≤ n then min (2 + j) 6 else if m = 0 then min (2 + n) 6 else min (2 + n) 6 - (j - n)
theorem rg_g_lt (n m j : Nat) : rg_g n m j < 7 := by
  unfold rg_g
  split
  · omega
  · split <;> omega
theorem rg_g_lo {n m j : Nat} (h : j ≤ n) : rg_g n m j = min (2 + j) 6 := if_pos h
theorem rg_g_s {n m j : Nat} (hm : m < 2) (h : n ≤ j) : rg_g n m (j + 1) = rg_mv (rg_g n m j) m := by
  unfold rg_mv rg_g
  rw [if_neg (show ¬ j + 1 ≤ n by omega), if_neg (show ¬ m = 2 by omega)]
  by_cases e : m = 0
  · rw [if_pos e, if_pos e, if_neg (show ¬ m = 1 by omega)]
    split
    · rw [show j = n by omega]
    · rfl
  · rw [if_neg e, if_neg e, if_pos (show m = 1 by omega)]
    split <;> omega
theorem rg_g_d {n m j : Nat} (h : n ≤ j) (h3 : j + 1 ≤ 3) : ¬ rg_g n m (j + 1) = min (2 + (j + 1)) 6 := by
  unfold rg_g
  rw [if_neg (show ¬ j + 1 ≤ n by omega)]
  split <;> omega
theorem rg_r_s (j : Nat) : min (2 + (j + 1)) 6 = rg_mv (min (2 + j) 6) 2 := by
  unfold rg_mv
  rw [if_neg (by decide), if_pos rfl]
  split <;> omega
theorem rg_lawOf {post : Int32 → St0 → Prop} {mc ms : Nat} {u : St0} {p0 p1 : Int32} {n m : Nat} (hmc : 7 ≤ mc) (hms : 214 ≤ ms) (hn1 : 1 ≤ n) (hn4 : n ≤ 4) (hm : m < 2)
    (en : 1 + (p0 &&& 3) = nI n) (em : p1 &&& 1 = nI m) (H : post 1 ()) : wpL_lawOf post mc ms u p0 p1 := by
  unfold wpL_lawOf
  refine ⟨by omega, by omega, 6, 207, by omega, by omega, rg_init (by omega) (by omega) (fun b3 b4 b5 b6 hb => ?_)⟩
  dsimp only
  refine nm_r en (nm_r em ?_)
  refine rg_arrive (pc := 0) (n := 0) (m := 2) (o := 0) (g := fun j => min (2 + j) 6) (by omega) (by omega) (by omega) (by omega) (by omega) (fun j _ _ => rfl) (fun j _ _ => rfl) (fun j _ => rfl) (fun j _ => by omega) (fun j _ _ => rg_r_s j) (fun j hj => ?_) (fun j _ hj => absurd hj (by omega)) (fun b2 c3 c4 c5 c6 g2 gz g3 => ?_)
  · rw [show j = 0 by omega]
    exact hb 0 (by omega)
  dsimp only at g3 ⊢
  refine rg_tick (k := 0) (by omega) ?_
  dsimp only
  refine rg_tick (k := 1) (by omega) ?_
  dsimp only
  refine rg_tick (k := 2) (by omega) ?_
  dsimp only
  refine rg_position (pc := 3) (p := 5) (by omega) (by omega) (g3 3 (by omega)) (fun d4 d5 d6 => ?_)
  dsimp only
  refine rg_arrive (pc := 3) (n := n) (m := m) (o := 2) (g := rg_g n m) (by omega) (by omega) (by omega) (by omega) (by omega) (fun j hj _ => pk_un (by omega)) (fun j _ hj => g2 j (by omega) hj) gz (fun j _ => rg_g_lt n m j) (fun j hj _ => rg_g_s hm hj) (fun j hj => ?_) (fun j hj hj3 => ?_) (fun e2 e3 e4 e5 e6 k2 kz k3 => ?_)
  · rw [rg_g_lo hj]
    exact g3 j (by omega)
  · rw [g3 (j + 1) (by omega), nI_eq (by have := rg_g_lt n m (j + 1); omega) (by omega)]
    have := rg_g_d (m := m) hj hj3
    omega
  dsimp only
  have h40 : upd (upd (fun _ => (0 : Int32)) 0 1) n 1 40 = 0 := by
    rw [pk_un (by omega), pk_un (by omega)]
  refine rg_position (pc := 3) (p := rg_g n m 3) (by omega) (rg_g_lt n m 3) (k3 3 (by omega)) (fun f4 f5 f6 => ?_)
  dsimp only
  refine rg_shown4 (k3 4 (by omega)) (rg_sure h40 (rg_settled (pc := 3) (p := rg_g n m 0) (by omega) (by omega) (rg_g_lt n m 0) h40 (k3 0 (by omega)) ?_))
  have hn : n = 1 ∨ n = 2 ∨ n = 3 ∨ n = 4 := by omega
  have hm2 : m = 0 ∨ m = 1 := by omega
  clear k3 k2 kz h40 g3 g2 gz hb en em
  rcases hn with e | e | e | e <;> rcases hm2 with e' | e' <;> rw [e, e'] <;>
    repeat (first | exact H | refine br_t (by decide +kernel) ?_ | refine br_f (by decide +kernel) ?_ | unfold wL_lawOf_122 | unfold wL_lawOf_180 | unfold wL_lawOf_201)
theorem i_vc (xs : Nat → Int32) (L : Nat) (hL : L ≤ 2) : wpL_law (fun r => r = 1) L xs := by
  have K : ∀ p0 p1 : Int32, ∃ mc_4 ms_5 : Nat, 0 + mc_4 ≤ 62 ∧ 0 + ms_5 ≤ 976 ∧ (wpL_lawOf (fun r_3 _ => r_3 = 1) mc_4 ms_5 () p0 p1) := by
    intro p0 p1
    obtain ⟨j, hj, ej⟩ := pk_andE p0 (m := 3) 2 (by decide)
    obtain ⟨m, hm, em⟩ := pk_andE p1 (m := 1) 1 (by decide)
    exact ⟨7, 214, by omega, by omega, rg_lawOf (n := 1 + j) (m := m) (by omega) (by omega) (by omega) (by omega) (by omega) (by rw [ej]; exact nI_add 1 j) em rfl⟩
  have C : ∀ (post : Int32 → Prop) (k : Nat), k < 2 → (∀ r, post r) → wpL_cellAt post L xs () (nI k) := by
    intro post k hk h
    unfold wpL_cellAt
    exact pk_le L k (fun _ => h 0) (fun z => ⟨pk_in k L z, h _⟩)
  unfold wpL_law
  exact C _ 0 (by omega) (fun r1 => C _ 1 (by omega) (fun r2 => K r1 r2))
end
