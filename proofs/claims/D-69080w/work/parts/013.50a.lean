set_option linter.all false
section
/-! lists of facts as conjunctions (simp takes them apart) -/
set_option maxRecDepth 100000
theorem faA : (∀ x : Int, (bif Nat.blt 1 (nSt 1) && (fcOf 1 1 != 0) then fcOf 1 1 else x) = 2) ∧
  (∀ x : Int, (bif Nat.blt 1 (nSt 1) && (fcOf 1 2 != 0) then fcOf 1 2 else x) = 4) ∧
  (∀ x : Int, (bif Nat.blt 1 (nSt 1) && (fcOf 1 3 != 0) then fcOf 1 3 else x) = 9) ∧
  (∀ x : Int, (bif Nat.blt 1 (nSt 1) && (fcOf 1 4 != 0) then fcOf 1 4 else x) = 14) ∧
  (∀ x : Int, (bif Nat.blt 1 (nSt 1) && (fcOf 1 5 != 0) then fcOf 1 5 else x) = 17) ∧
  (∀ x : Int, (bif Nat.blt 1 (nSt 1) && (fcOf 1 6 != 0) then fcOf 1 6 else x) = 53) ∧
  (∀ x : Int, (bif Nat.blt 1 (nSt 1) && (fcOf 1 7 != 0) then fcOf 1 7 else x) = 56) ∧
  (∀ x : Int, (bif Nat.blt 1 (nSt 1) && (fcOf 1 8 != 0) then fcOf 1 8 else x) = 61) ∧
  (∀ x : Int, (bif Nat.blt 1 (nSt 1) && (fcOf 1 9 != 0) then fcOf 1 9 else x) = 74) ∧
  (∀ x : Int, (bif Nat.blt 1 (nSt 1) && (fcOf 1 10 != 0) then fcOf 1 10 else x) = 96) ∧
  (∀ x : Int, (bif Nat.blt 1 (nSt 1) && (fcOf 1 11 != 0) then fcOf 1 11 else x) = 101) ∧
  (∀ x : Int, (bif Nat.blt 1 (nSt 1) && (fcOf 1 12 != 0) then fcOf 1 12 else x) = 106) ∧
  (∀ x : Int, (bif Nat.blt 1 (nSt 1) && (fcOf 1 13 != 0) then fcOf 1 13 else x) = 113) ∧
  (∀ x : Int, (bif Nat.blt 4 (nSt 1) && (fcOf 4 1 != 0) then fcOf 4 1 else x) = 5) ∧
  (∀ x : Int, (bif Nat.blt 14 (nSt 1) && (fcOf 14 1 != 0) then fcOf 14 1 else x) = 4) ∧
  (∀ x : Int, (bif Nat.blt 14 (nSt 1) && (fcOf 14 2 != 0) then fcOf 14 2 else x) = 15) ∧
  (∀ x : Int, (bif Nat.blt 17 (nSt 1) && (fcOf 17 1 != 0) then fcOf 17 1 else x) = 4) ∧
  (∀ x : Int, (bif Nat.blt 56 (nSt 1) && (fcOf 56 1 != 0) then fcOf 56 1 else x) = 17) ∧
  (∀ x : Int, (bif Nat.blt 56 (nSt 1) && (fcOf 56 2 != 0) then fcOf 56 2 else x) = 53) ∧
  (∀ x : Int, (bif Nat.blt 61 (nSt 1) && (fcOf 61 1 != 0) then fcOf 61 1 else x) = 17) ∧
  (∀ x : Int, (bif Nat.blt 61 (nSt 1) && (fcOf 61 2 != 0) then fcOf 61 2 else x) = 53) ∧
  (∀ x : Int, (bif Nat.blt 61 (nSt 1) && (fcOf 61 3 != 0) then fcOf 61 3 else x) = 56) ∧
  (∀ x : Int, (bif Nat.blt 74 (nSt 1) && (fcOf 74 1 != 0) then fcOf 74 1 else x) = 17) ∧
  (∀ x : Int, (bif Nat.blt 74 (nSt 1) && (fcOf 74 2 != 0) then fcOf 74 2 else x) = 61) ∧
  (∀ x : Int, (bif Nat.blt 74 (nSt 1) && (fcOf 74 3 != 0) then fcOf 74 3 else x) = 75) ∧
  (∀ x : Int, (bif Nat.blt 74 (nSt 1) && (fcOf 74 4 != 0) then fcOf 74 4 else x) = 79) ∧
  (∀ x : Int, (bif Nat.blt 79 (nSt 1) && (fcOf 79 1 != 0) then fcOf 79 1 else x) = 82) ∧
  (∀ x : Int, (bif Nat.blt 96 (nSt 1) && (fcOf 96 1 != 0) then fcOf 96 1 else x) = 17) ∧
  (∀ x : Int, (bif Nat.blt 101 (nSt 1) && (fcOf 101 1 != 0) then fcOf 101 1 else x) = 17) ∧
  (∀ x : Int, (bif Nat.blt 106 (nSt 1) && (fcOf 106 1 != 0) then fcOf 106 1 else x) = 17) ∧
  (∀ x : Int, (bif Nat.blt 106 (nSt 1) && (fcOf 106 2 != 0) then fcOf 106 2 else x) = 74) ∧
  (∀ x : Int, (bif Nat.blt 106 (nSt 1) && (fcOf 106 3 != 0) then fcOf 106 3 else x) = 107) ∧
  (∀ x : Int, (bif Nat.blt 106 (nSt 1) && (fcOf 106 4 != 0) then fcOf 106 4 else x) = 109) ∧
  (∀ x : Int, (bif Nat.blt 113 (nSt 1) && (fcOf 113 1 != 0) then fcOf 113 1 else x) = 17) ∧
  (∀ x : Int, (bif Nat.blt 113 (nSt 1) && (fcOf 113 2 != 0) then fcOf 113 2 else x) = 74) ∧
  (∀ x : Int, (bif Nat.blt 113 (nSt 1) && (fcOf 113 3 != 0) then fcOf 113 3 else x) = 114) ∧
  (∀ x : Int, (bif Nat.blt 113 (nSt 1) && (fcOf 113 4 != 0) then fcOf 113 4 else x) = 116) := ⟨fun _ => rfl, fun _ => rfl, fun _ => rfl, fun _ => rfl, fun _ => rfl, fun _ => rfl, fun _ => rfl, fun _ => rfl, fun _ => rfl, fun _ => rfl, fun _ => rfl, fun _ => rfl, fun _ => rfl, fun _ => rfl, fun _ => rfl, fun _ => rfl, fun _ => rfl, fun _ => rfl, fun _ => rfl, fun _ => rfl, fun _ => rfl, fun _ => rfl, fun _ => rfl, fun _ => rfl, fun _ => rfl, fun _ => rfl, fun _ => rfl, fun _ => rfl, fun _ => rfl, fun _ => rfl, fun _ => rfl, fun _ => rfl, fun _ => rfl, fun _ => rfl, fun _ => rfl, fun _ => rfl, fun _ => rfl⟩
theorem fbB : (∀ x : Int, (bif Nat.blt 1 (nSt 2) && (fcOf 1 1 != 0) then fcOf 1 1 else x) = 2) ∧
  (∀ x : Int, (bif Nat.blt 1 (nSt 2) && (fcOf 1 2 != 0) then fcOf 1 2 else x) = 4) ∧
  (∀ x : Int, (bif Nat.blt 1 (nSt 2) && (fcOf 1 3 != 0) then fcOf 1 3 else x) = 9) ∧
  (∀ x : Int, (bif Nat.blt 1 (nSt 2) && (fcOf 1 4 != 0) then fcOf 1 4 else x) = 14) ∧
  (∀ x : Int, (bif Nat.blt 1 (nSt 2) && (fcOf 1 5 != 0) then fcOf 1 5 else x) = 17) ∧
  (∀ x : Int, (bif Nat.blt 1 (nSt 2) && (fcOf 1 6 != 0) then fcOf 1 6 else x) = 53) ∧
  (∀ x : Int, (bif Nat.blt 1 (nSt 2) && (fcOf 1 7 != 0) then fcOf 1 7 else x) = 56) ∧
  (∀ x : Int, (bif Nat.blt 1 (nSt 2) && (fcOf 1 8 != 0) then fcOf 1 8 else x) = 61) ∧
  (∀ x : Int, (bif Nat.blt 1 (nSt 2) && (fcOf 1 9 != 0) then fcOf 1 9 else x) = 74) ∧
  (∀ x : Int, (bif Nat.blt 1 (nSt 2) && (fcOf 1 10 != 0) then fcOf 1 10 else x) = 96) ∧
  (∀ x : Int, (bif Nat.blt 1 (nSt 2) && (fcOf 1 11 != 0) then fcOf 1 11 else x) = 101) ∧
  (∀ x : Int, (bif Nat.blt 1 (nSt 2) && (fcOf 1 12 != 0) then fcOf 1 12 else x) = 106) ∧
  (∀ x : Int, (bif Nat.blt 1 (nSt 2) && (fcOf 1 13 != 0) then fcOf 1 13 else x) = 113) ∧
  (∀ x : Int, (bif Nat.blt 4 (nSt 2) && (fcOf 4 1 != 0) then fcOf 4 1 else x) = 5) ∧
  (∀ x : Int, (bif Nat.blt 14 (nSt 2) && (fcOf 14 1 != 0) then fcOf 14 1 else x) = 4) ∧
  (∀ x : Int, (bif Nat.blt 14 (nSt 2) && (fcOf 14 2 != 0) then fcOf 14 2 else x) = 15) ∧
  (∀ x : Int, (bif Nat.blt 17 (nSt 2) && (fcOf 17 1 != 0) then fcOf 17 1 else x) = 4) ∧
  (∀ x : Int, (bif Nat.blt 56 (nSt 2) && (fcOf 56 1 != 0) then fcOf 56 1 else x) = 17) ∧
  (∀ x : Int, (bif Nat.blt 56 (nSt 2) && (fcOf 56 2 != 0) then fcOf 56 2 else x) = 53) ∧
  (∀ x : Int, (bif Nat.blt 61 (nSt 2) && (fcOf 61 1 != 0) then fcOf 61 1 else x) = 17) ∧
  (∀ x : Int, (bif Nat.blt 61 (nSt 2) && (fcOf 61 2 != 0) then fcOf 61 2 else x) = 53) ∧
  (∀ x : Int, (bif Nat.blt 61 (nSt 2) && (fcOf 61 3 != 0) then fcOf 61 3 else x) = 56) ∧
  (∀ x : Int, (bif Nat.blt 74 (nSt 2) && (fcOf 74 1 != 0) then fcOf 74 1 else x) = 17) ∧
  (∀ x : Int, (bif Nat.blt 74 (nSt 2) && (fcOf 74 2 != 0) then fcOf 74 2 else x) = 61) ∧
  (∀ x : Int, (bif Nat.blt 74 (nSt 2) && (fcOf 74 3 != 0) then fcOf 74 3 else x) = 75) ∧
  (∀ x : Int, (bif Nat.blt 74 (nSt 2) && (fcOf 74 4 != 0) then fcOf 74 4 else x) = 79) ∧
  (∀ x : Int, (bif Nat.blt 79 (nSt 2) && (fcOf 79 1 != 0) then fcOf 79 1 else x) = 82) ∧
  (∀ x : Int, (bif Nat.blt 96 (nSt 2) && (fcOf 96 1 != 0) then fcOf 96 1 else x) = 17) ∧
  (∀ x : Int, (bif Nat.blt 101 (nSt 2) && (fcOf 101 1 != 0) then fcOf 101 1 else x) = 17) ∧
  (∀ x : Int, (bif Nat.blt 106 (nSt 2) && (fcOf 106 1 != 0) then fcOf 106 1 else x) = 17) ∧
  (∀ x : Int, (bif Nat.blt 106 (nSt 2) && (fcOf 106 2 != 0) then fcOf 106 2 else x) = 74) ∧
  (∀ x : Int, (bif Nat.blt 106 (nSt 2) && (fcOf 106 3 != 0) then fcOf 106 3 else x) = 107) ∧
  (∀ x : Int, (bif Nat.blt 106 (nSt 2) && (fcOf 106 4 != 0) then fcOf 106 4 else x) = 109) ∧
  (∀ x : Int, (bif Nat.blt 113 (nSt 2) && (fcOf 113 1 != 0) then fcOf 113 1 else x) = 17) ∧
  (∀ x : Int, (bif Nat.blt 113 (nSt 2) && (fcOf 113 2 != 0) then fcOf 113 2 else x) = 74) ∧
  (∀ x : Int, (bif Nat.blt 113 (nSt 2) && (fcOf 113 3 != 0) then fcOf 113 3 else x) = 114) ∧
  (∀ x : Int, (bif Nat.blt 113 (nSt 2) && (fcOf 113 4 != 0) then fcOf 113 4 else x) = 116) ∧
  (∀ x : Int, (bif Nat.blt 120 (nSt 2) && (fcOf 120 64 != 0) then fcOf 120 64 else x) = 160) ∧
  (∀ x : Int, (bif Nat.blt 160 (nSt 2) && (fcOf 160 44 != 0) then fcOf 160 44 else x) = 182) ∧
  (∀ x : Int, (bif Nat.blt 160 (nSt 2) && (fcOf 160 45 != 0) then fcOf 160 45 else x) = 187) ∧
  (∀ x : Int, (bif Nat.blt 160 (nSt 2) && (fcOf 160 54 != 0) then fcOf 160 54 else x) = 198) ∧
  (∀ x : Int, (bif Nat.blt 208 (nSt 2) && (fcOf 208 1 != 0) then fcOf 208 1 else x) = 160) ∧
  (∀ x : Int, (bif Nat.blt 215 (nSt 2) && (fcOf 215 1 != 0) then fcOf 215 1 else x) = 160) := ⟨fun _ => rfl, fun _ => rfl, fun _ => rfl, fun _ => rfl, fun _ => rfl, fun _ => rfl, fun _ => rfl, fun _ => rfl, fun _ => rfl, fun _ => rfl, fun _ => rfl, fun _ => rfl, fun _ => rfl, fun _ => rfl, fun _ => rfl, fun _ => rfl, fun _ => rfl, fun _ => rfl, fun _ => rfl, fun _ => rfl, fun _ => rfl, fun _ => rfl, fun _ => rfl, fun _ => rfl, fun _ => rfl, fun _ => rfl, fun _ => rfl, fun _ => rfl, fun _ => rfl, fun _ => rfl, fun _ => rfl, fun _ => rfl, fun _ => rfl, fun _ => rfl, fun _ => rfl, fun _ => rfl, fun _ => rfl, fun _ => rfl, fun _ => rfl, fun _ => rfl, fun _ => rfl, fun _ => rfl, fun _ => rfl⟩
theorem sbA : (∀ σ : Sg, gcap σ 2 1 = 2560) ∧
  (∀ σ : Sg, gcap σ 4 2 = 2048) ∧
  (∀ σ : Sg, gcap σ 4 4 = 4096) ∧
  (∀ σ : Sg, gcap σ 5 1 = 2560) ∧
  (∀ σ : Sg, gcap σ 9 1 = 4096) ∧
  (∀ σ : Sg, gcap σ 9 2 = 4096) ∧
  (∀ σ : Sg, gcap σ 9 3 = 4096) ∧
  (∀ σ : Sg, gcap σ 9 4 = 4096) ∧
  (∀ σ : Sg, gcap σ 15 1 = 52) ∧
  (∀ σ : Sg, gcap σ 17 3 = (bif gL σ 17 3 == 0 then 64 else bif Nat.blt (gL σ 17 3) 64 then 0 else min 33790 (2 * gL σ 17 3 + 2))) ∧
  (∀ σ : Sg, gcap σ 17 4 = (bif gL σ 17 4 == 0 then 64 else bif Nat.blt (gL σ 17 4) 64 then 0 else min 33790 (2 * gL σ 17 4 + 2))) ∧
  (∀ σ : Sg, gcap σ 17 5 = (bif gL σ 17 5 == 0 then 64 else bif Nat.blt (gL σ 17 5) 64 then 0 else min 33790 (2 * gL σ 17 5 + 2))) ∧
  (∀ σ : Sg, gcap σ 17 6 = (bif gL σ 17 6 == 0 then 64 else bif Nat.blt (gL σ 17 6) 64 then 0 else min 33790 (2 * gL σ 17 6 + 2))) ∧
  (∀ σ : Sg, gcap σ 17 7 = (bif gL σ 17 7 == 0 then 64 else bif Nat.blt (gL σ 17 7) 64 then 0 else min 33790 (2 * gL σ 17 7 + 2))) ∧
  (∀ σ : Sg, gcap σ 17 10 = 512) ∧
  (∀ σ : Sg, gcap σ 17 11 = 512) ∧
  (∀ σ : Sg, gcap σ 17 12 = 512) ∧
  (∀ σ : Sg, gcap σ 17 13 = 512) ∧
  (∀ σ : Sg, gcap σ 17 14 = 512) ∧
  (∀ σ : Sg, gcap σ 17 15 = 512) ∧
  (∀ σ : Sg, gcap σ 17 16 = 512) ∧
  (∀ σ : Sg, gcap σ 17 17 = 512) ∧
  (∀ σ : Sg, gcap σ 17 19 = 5) ∧
  (∀ σ : Sg, gcap σ 17 21 = 4096) ∧
  (∀ σ : Sg, gcap σ 17 22 = 4096) ∧
  (∀ σ : Sg, gcap σ 17 23 = 1024) ∧
  (∀ σ : Sg, gcap σ 17 24 = 1024) ∧
  (∀ σ : Sg, gcap σ 17 25 = 1024) ∧
  (∀ σ : Sg, gcap σ 17 26 = 1024) ∧
  (∀ σ : Sg, gcap σ 17 27 = 1024) ∧
  (∀ σ : Sg, gcap σ 17 28 = 1024) ∧
  (∀ σ : Sg, gcap σ 17 29 = 1024) ∧
  (∀ σ : Sg, gcap σ 17 31 = 16) ∧
  (∀ σ : Sg, gcap σ 17 33 = 2048) ∧
  (∀ σ : Sg, gcap σ 17 34 = 2048) ∧
  (∀ σ : Sg, gcap σ 17 38 = 2048) ∧
  (∀ σ : Sg, gcap σ 17 39 = 2048) ∧
  (∀ σ : Sg, gcap σ 17 40 = 2048) ∧
  (∀ σ : Sg, gcap σ 17 43 = 512) ∧
  (∀ σ : Sg, gcap σ 17 44 = 512) ∧
  (∀ σ : Sg, gcap σ 17 45 = 512) ∧
  (∀ σ : Sg, gcap σ 17 46 = 512) ∧
  (∀ σ : Sg, gcap σ 17 48 = 8192) ∧
  (∀ σ : Sg, gcap σ 17 50 = 17000) ∧
  (∀ σ : Sg, gcap σ 53 1 = 16) ∧
  (∀ σ : Sg, gcap σ 53 2 = 256) ∧
  (∀ σ : Sg, gcap σ 56 3 = 51000) ∧
  (∀ σ : Sg, gcap σ 56 4 = 51000) ∧
  (∀ σ : Sg, gcap σ 56 5 = 51000) ∧
  (∀ σ : Sg, gcap σ 56 6 = 512) ∧
  (∀ σ : Sg, gcap σ 61 4 = 512) ∧
  (∀ σ : Sg, gcap σ 61 5 = 512) ∧
  (∀ σ : Sg, gcap σ 61 8 = 1024) ∧
  (∀ σ : Sg, gcap σ 61 9 = 512) ∧
  (∀ σ : Sg, gcap σ 61 10 = 512) ∧
  (∀ σ : Sg, gcap σ 61 11 = 1024) ∧
  (∀ σ : Sg, gcap σ 61 12 = 1024) ∧
  (∀ σ : Sg, gcap σ 61 13 = 1024) ∧
  (∀ σ : Sg, gcap σ 61 14 = 1024) ∧
  (∀ σ : Sg, gcap σ 61 16 = 31000) ∧
  (∀ σ : Sg, gcap σ 61 18 = 1024) ∧
  (∀ σ : Sg, gcap σ 61 22 = 24600) ∧
  (∀ σ : Sg, gcap σ 74 5 = 537000) ∧
  (∀ σ : Sg, gcap σ 74 7 = 51000) ∧
  (∀ σ : Sg, gcap σ 74 8 = 512) ∧
  (∀ σ : Sg, gcap σ 74 9 = 512) ∧
  (∀ σ : Sg, gcap σ 74 10 = 512) ∧
  (∀ σ : Sg, gcap σ 74 11 = 1024) ∧
  (∀ σ : Sg, gcap σ 74 12 = 1024) ∧
  (∀ σ : Sg, gcap σ 74 14 = 31000) ∧
  (∀ σ : Sg, gcap σ 74 15 = 1024) ∧
  (∀ σ : Sg, gcap σ 74 16 = 4096) ∧
  (∀ σ : Sg, gcap σ 75 2 = 17200) ∧
  (∀ σ : Sg, gcap σ 75 3 = 17200) ∧
  (∀ σ : Sg, gcap σ 75 4 = 16384) ∧
  (∀ σ : Sg, gcap σ 79 2 = 17200) ∧
  (∀ σ : Sg, gcap σ 79 3 = 17200) ∧
  (∀ σ : Sg, gcap σ 82 2 = 70400) ∧
  (∀ σ : Sg, gcap σ 82 3 = 70400) ∧
  (∀ σ : Sg, gcap σ 82 4 = 65536) ∧
  (∀ σ : Sg, gcap σ 96 2 = 51000) ∧
  (∀ σ : Sg, gcap σ 96 3 = 512) ∧
  (∀ σ : Sg, gcap σ 96 4 = 512) ∧
  (∀ σ : Sg, gcap σ 96 5 = 1024) ∧
  (∀ σ : Sg, gcap σ 101 2 = 51000) ∧
  (∀ σ : Sg, gcap σ 101 3 = 512) ∧
  (∀ σ : Sg, gcap σ 101 4 = 512) ∧
  (∀ σ : Sg, gcap σ 101 5 = 1024) ∧
  (∀ σ : Sg, gcap σ 106 5 = 512) ∧
  (∀ σ : Sg, gcap σ 106 6 = 512) ∧
  (∀ σ : Sg, gcap σ 107 1 = 17200) ∧
  (∀ σ : Sg, gcap σ 109 1 = 70400) ∧
  (∀ σ : Sg, gcap σ 113 5 = 512) ∧
  (∀ σ : Sg, gcap σ 113 6 = 512) ∧
  (∀ σ : Sg, gcap σ 114 1 = 17200) ∧
  (∀ σ : Sg, gcap σ 116 1 = 64) := ⟨fun _ => rfl, fun _ => rfl, fun _ => rfl, fun _ => rfl, fun _ => rfl, fun _ => rfl, fun _ => rfl, fun _ => rfl, fun _ => rfl, fun _ => rfl, fun _ => rfl, fun _ => rfl, fun _ => rfl, fun _ => rfl, fun _ => rfl, fun _ => rfl, fun _ => rfl, fun _ => rfl, fun _ => rfl, fun _ => rfl, fun _ => rfl, fun _ => rfl, fun _ => rfl, fun _ => rfl, fun _ => rfl, fun _ => rfl, fun _ => rfl, fun _ => rfl, fun _ => rfl, fun _ => rfl, fun _ => rfl, fun _ => rfl, fun _ => rfl, fun _ => rfl, fun _ => rfl, fun _ => rfl, fun _ => rfl, fun _ => rfl, fun _ => rfl, fun _ => rfl, fun _ => rfl, fun _ => rfl, fun _ => rfl, fun _ => rfl, fun _ => rfl, fun _ => rfl, fun _ => rfl, fun _ => rfl, fun _ => rfl, fun _ => rfl, fun _ => rfl, fun _ => rfl, fun _ => rfl, fun _ => rfl, fun _ => rfl, fun _ => rfl, fun _ => rfl, fun _ => rfl, fun _ => rfl, fun _ => rfl, fun _ => rfl, fun _ => rfl, fun _ => rfl, fun _ => rfl, fun _ => rfl, fun _ => rfl, fun _ => rfl, fun _ => rfl, fun _ => rfl, fun _ => rfl, fun _ => rfl, fun _ => rfl, fun _ => rfl, fun _ => rfl, fun _ => rfl, fun _ => rfl, fun _ => rfl, fun _ => rfl, fun _ => rfl, fun _ => rfl, fun _ => rfl, fun _ => rfl, fun _ => rfl, fun _ => rfl, fun _ => rfl, fun _ => rfl, fun _ => rfl, fun _ => rfl, fun _ => rfl, fun _ => rfl, fun _ => rfl, fun _ => rfl, fun _ => rfl, fun _ => rfl, fun _ => rfl, fun _ => rfl⟩
theorem sbB : (∀ σ : Sg, gcap σ 120 1 = 19) ∧
  (∀ σ : Sg, gcap σ 120 2 = 8000) ∧
  (∀ σ : Sg, gcap σ 120 5 = 8002) ∧
  (∀ σ : Sg, gcap σ 120 6 = 8002) ∧
  (∀ σ : Sg, gcap σ 120 7 = 8002) ∧
  (∀ σ : Sg, gcap σ 120 12 = 26000) ∧
  (∀ σ : Sg, gcap σ 120 13 = 26000) ∧
  (∀ σ : Sg, gcap σ 120 14 = 26000) ∧
  (∀ σ : Sg, gcap σ 120 15 = 26000) ∧
  (∀ σ : Sg, gcap σ 120 16 = 26000) ∧
  (∀ σ : Sg, gcap σ 120 17 = 26000) ∧
  (∀ σ : Sg, gcap σ 120 19 = 26000) ∧
  (∀ σ : Sg, gcap σ 120 20 = 13000) ∧
  (∀ σ : Sg, gcap σ 120 21 = 13000) ∧
  (∀ σ : Sg, gcap σ 120 22 = 13000) ∧
  (∀ σ : Sg, gcap σ 120 23 = 13000) ∧
  (∀ σ : Sg, gcap σ 120 24 = 13000) ∧
  (∀ σ : Sg, gcap σ 120 26 = 4096) ∧
  (∀ σ : Sg, gcap σ 120 27 = 2048) ∧
  (∀ σ : Sg, gcap σ 120 29 = 2048) ∧
  (∀ σ : Sg, gcap σ 120 30 = 2048) ∧
  (∀ σ : Sg, gcap σ 120 31 = 2048) ∧
  (∀ σ : Sg, gcap σ 120 32 = 256) ∧
  (∀ σ : Sg, gcap σ 120 33 = 256) ∧
  (∀ σ : Sg, gcap σ 120 34 = 256) ∧
  (∀ σ : Sg, gcap σ 120 35 = 256) ∧
  (∀ σ : Sg, gcap σ 120 36 = 256) ∧
  (∀ σ : Sg, gcap σ 120 37 = 256) ∧
  (∀ σ : Sg, gcap σ 120 47 = 1024) ∧
  (∀ σ : Sg, gcap σ 120 48 = 1024) ∧
  (∀ σ : Sg, gcap σ 120 49 = 1024) ∧
  (∀ σ : Sg, gcap σ 120 51 = 3920) ∧
  (∀ σ : Sg, gcap σ 120 53 = 3920) ∧
  (∀ σ : Sg, gcap σ 120 54 = 3920) ∧
  (∀ σ : Sg, gcap σ 120 56 = 4096) ∧
  (∀ σ : Sg, gcap σ 120 57 = 4096) ∧
  (∀ σ : Sg, gcap σ 120 62 = 2) ∧
  (∀ σ : Sg, gcap σ 120 63 = 256) ∧
  (∀ σ : Sg, gcap σ 120 65 = 2) ∧
  (∀ σ : Sg, gcap σ 160 5 = 2048) ∧
  (∀ σ : Sg, gcap σ 160 6 = 4096) ∧
  (∀ σ : Sg, gcap σ 160 7 = 4096) ∧
  (∀ σ : Sg, gcap σ 160 8 = 4096) ∧
  (∀ σ : Sg, gcap σ 160 11 = 176) ∧
  (∀ σ : Sg, gcap σ 160 13 = 176) ∧
  (∀ σ : Sg, gcap σ 160 17 = 256) ∧
  (∀ σ : Sg, gcap σ 160 19 = 1024) ∧
  (∀ σ : Sg, gcap σ 160 20 = 1024) ∧
  (∀ σ : Sg, gcap σ 160 21 = 1024) ∧
  (∀ σ : Sg, gcap σ 160 23 = 3920) ∧
  (∀ σ : Sg, gcap σ 160 25 = 3920) ∧
  (∀ σ : Sg, gcap σ 160 26 = 3920) ∧
  (∀ σ : Sg, gcap σ 160 27 = 3920) ∧
  (∀ σ : Sg, gcap σ 160 28 = 3920) ∧
  (∀ σ : Sg, gcap σ 160 29 = 3920) ∧
  (∀ σ : Sg, gcap σ 160 32 = 176) ∧
  (∀ σ : Sg, gcap σ 160 33 = 176) ∧
  (∀ σ : Sg, gcap σ 160 34 = 176) ∧
  (∀ σ : Sg, gcap σ 160 42 = 176) ∧
  (∀ σ : Sg, gcap σ 160 43 = 176) ∧
  (∀ σ : Sg, gcap σ 160 46 = 176) ∧
  (∀ σ : Sg, gcap σ 160 47 = 176) ∧
  (∀ σ : Sg, gcap σ 160 48 = 17200) ∧
  (∀ σ : Sg, gcap σ 160 49 = 17200) ∧
  (∀ σ : Sg, gcap σ 160 50 = 5300) ∧
  (∀ σ : Sg, gcap σ 160 52 = 22400) ∧
  (∀ σ : Sg, gcap σ 160 55 = 2048) ∧
  (∀ σ : Sg, gcap σ 160 57 = 71700) ∧
  (∀ σ : Sg, gcap σ 160 58 = min 524288 ((1908000 - gD σ) / 2)) ∧
  (∀ σ : Sg, gcap σ 160 60 = 4096) ∧
  (∀ σ : Sg, gcap σ 182 1 = 16384) ∧
  (∀ σ : Sg, gcap σ 182 2 = 16384) ∧
  (∀ σ : Sg, gcap σ 182 6 = 32768) ∧
  (∀ σ : Sg, gcap σ 182 7 = 16384) ∧
  (∀ σ : Sg, gcap σ 187 1 = cpB (gK σ 0) 187 1) ∧
  (∀ σ : Sg, gcap σ 187 2 = cpB (gK σ 0) 187 2) ∧
  (∀ σ : Sg, gcap σ 187 6 = cpB (gK σ 0) 187 6) ∧
  (∀ σ : Sg, gcap σ 187 7 = cpB (gK σ 0) 187 7) ∧
  (∀ σ : Sg, gcap σ 198 1 = 8192) ∧
  (∀ σ : Sg, gcap σ 198 3 = 176) ∧
  (∀ σ : Sg, gcap σ 198 4 = 176) ∧
  (∀ σ : Sg, gcap σ 208 2 = 176) ∧
  (∀ σ : Sg, gcap σ 208 3 = 176) ∧
  (∀ σ : Sg, gcap σ 208 4 = 176) ∧
  (∀ σ : Sg, gcap σ 208 5 = 176) ∧
  (∀ σ : Sg, gcap σ 208 6 = 17200) ∧
  (∀ σ : Sg, gcap σ 208 7 = 70400) ∧
  (∀ σ : Sg, gcap σ 215 2 = 176) ∧
  (∀ σ : Sg, gcap σ 215 3 = 176) ∧
  (∀ σ : Sg, gcap σ 215 4 = 176) ∧
  (∀ σ : Sg, gcap σ 215 5 = 176) ∧
  (∀ σ : Sg, gcap σ 215 6 = 17200) ∧
  (∀ σ : Sg, gcap σ 215 7 = 70400) := ⟨fun _ => rfl, fun _ => rfl, fun _ => rfl, fun _ => rfl, fun _ => rfl, fun _ => rfl, fun _ => rfl, fun _ => rfl, fun _ => rfl, fun _ => rfl, fun _ => rfl, fun _ => rfl, fun _ => rfl, fun _ => rfl, fun _ => rfl, fun _ => rfl, fun _ => rfl, fun _ => rfl, fun _ => rfl, fun _ => rfl, fun _ => rfl, fun _ => rfl, fun _ => rfl, fun _ => rfl, fun _ => rfl, fun _ => rfl, fun _ => rfl, fun _ => rfl, fun _ => rfl, fun _ => rfl, fun _ => rfl, fun _ => rfl, fun _ => rfl, fun _ => rfl, fun _ => rfl, fun _ => rfl, fun _ => rfl, fun _ => rfl, fun _ => rfl, fun _ => rfl, fun _ => rfl, fun _ => rfl, fun _ => rfl, fun _ => rfl, fun _ => rfl, fun _ => rfl, fun _ => rfl, fun _ => rfl, fun _ => rfl, fun _ => rfl, fun _ => rfl, fun _ => rfl, fun _ => rfl, fun _ => rfl, fun _ => rfl, fun _ => rfl, fun _ => rfl, fun _ => rfl, fun _ => rfl, fun _ => rfl, fun _ => rfl, fun _ => rfl, fun _ => rfl, fun _ => rfl, fun _ => rfl, fun _ => rfl, fun _ => rfl, fun _ => rfl, fun _ => rfl, fun _ => rfl, fun _ => rfl, fun _ => rfl, fun _ => rfl, fun _ => rfl, fun _ => rfl, fun _ => rfl, fun _ => rfl, fun _ => rfl, fun _ => rfl, fun _ => rfl, fun _ => rfl, fun _ => rfl, fun _ => rfl, fun _ => rfl, fun _ => rfl, fun _ => rfl, fun _ => rfl, fun _ => rfl, fun _ => rfl, fun _ => rfl, fun _ => rfl, fun _ => rfl, fun _ => rfl⟩
end
section
/-! Bytes: rows of bytes, objects 2 (the tape) and 5 (letters of names) -/
set_option maxRecDepth 100000
theorem c_get2 {k : Nat} {i : Int} {σ : Sg} {Q : Option AV → Sg → Prop} {E : Int → Sg → Prop} (h0 : 0 ≤ i) (h1 : i < gL σ 2 1) (hQ : ∀ x, x = gA σ 2 1 i.toNat % 256 → Q (some (vI x)) σ) : Ct 1 35 k [vO 2, vI i] σ Q E := by
  refine ct_seg (il := (fun _ => false)) (mc := true) (fun _ => grow_ok) 40 [] (by decide) (Nat.le_of_ble_eq_true rfl) ?_
  repeat' (first | refine And.intro ?_ ?_ | (with_reducible intro c; try simp only [cmpI, cmpN, Classical.not_not, not_true_eq_false, not_false_eq_true, Int.reduceToNat, Int.toNat_natCast, tN_add, tN_add1, tN_sub1, gF_sF, gA_sF, gL_sF, gV_sF, gF_sA, gA_sA, gL_sA, gV_sA, gF_sB, gA_sB, gL_sB, gV_sB, gF_nA, gA_nA, gL_nA, gV_nA, gT_nA, gF_mV, gA_mV, gL_mV, gV_mV, gT_mV, gT_sB, gT_sA, gT_sF, gF_grw, gT_grw, gL_grw, gA_grw, elT, Nat.reduceEqDiff, eq_self, and_self, and_true, true_and, and_false, false_and, reduceIte, faA, qc_14_3, qc_15_2, qc_17_2, sbA] at c))
  all_goals (try first | exact rfl | exact True.intro | assumption | omega | (simp only [Int.reduceToNat, Int.toNat_natCast, tN_add, tN_add1, tN_sub1, gF_sF, gA_sF, gL_sF, gV_sF, gF_sA, gA_sA, gL_sA, gV_sA, gF_sB, gA_sB, gL_sB, gV_sB, gF_nA, gA_nA, gL_nA, gV_nA, gT_nA, gF_mV, gA_mV, gL_mV, gV_mV, gT_mV, gT_sB, gT_sA, gT_sF, gF_grw, gT_grw, gL_grw, gA_grw, elT, Nat.reduceEqDiff, eq_self, and_self, and_true, true_and, and_false, false_and, reduceIte, faA, qc_14_3, qc_15_2, qc_17_2, sbA]; omega) | (simp only [Int.reduceToNat, Int.toNat_natCast, tN_add, tN_add1, tN_sub1, gF_sF, gA_sF, gL_sF, gV_sF, gF_sA, gA_sA, gL_sA, gV_sA, gF_sB, gA_sB, gL_sB, gV_sB, gF_nA, gA_nA, gL_nA, gV_nA, gT_nA, gF_mV, gA_mV, gL_mV, gV_mV, gT_mV, gT_sB, gT_sA, gT_sF, gF_grw, gT_grw, gL_grw, gA_grw, elT, Nat.reduceEqDiff, eq_self, and_self, and_true, true_and, and_false, false_and, reduceIte, faA, qc_14_3, qc_15_2, qc_17_2, sbA]; done) | (simp only [Int.reduceToNat, Int.toNat_natCast, tN_add, tN_add1, tN_sub1, gF_sF, gA_sF, gL_sF, gV_sF, gF_sA, gA_sA, gL_sA, gV_sA, gF_sB, gA_sB, gL_sB, gV_sB, gF_nA, gA_nA, gL_nA, gV_nA, gT_nA, gF_mV, gA_mV, gL_mV, gV_mV, gT_mV, gT_sB, gT_sA, gT_sF, gF_grw, gT_grw, gL_grw, gA_grw, elT, Nat.reduceEqDiff, eq_self, and_self, and_true, true_and, and_false, false_and, reduceIte, faA, qc_14_3, qc_15_2, qc_17_2, sbA, grl]; split <;> omega) | (show 2 * gL _ _ _ ≤ gL _ _ _; simp only [Int.reduceToNat, Int.toNat_natCast, tN_add, tN_add1, tN_sub1, gF_sF, gA_sF, gL_sF, gV_sF, gF_sA, gA_sA, gL_sA, gV_sA, gF_sB, gA_sB, gL_sB, gV_sB, gF_nA, gA_nA, gL_nA, gV_nA, gT_nA, gF_mV, gA_mV, gL_mV, gV_mV, gT_mV, gT_sB, gT_sA, gT_sF, gF_grw, gT_grw, gL_grw, gA_grw, elT, Nat.reduceEqDiff, eq_self, and_self, and_true, true_and, and_false, false_and, reduceIte, faA, qc_14_3, qc_15_2, qc_17_2, sbA]; omega))
  exact hQ _ (iAnd_255 _)
theorem c_add2 {k s : Nat} {b : Int} {σ : Sg} {Q : Option AV → Sg → Prop} {E : Int → Sg → Prop} (hk : 1 ≤ k) (h1 : gF σ 2 2 = (s : Int)) (h2 : s ≤ gL σ 2 1) (h3 : 64 ≤ gL σ 2 1) (h4 : s ≤ 1279)
    (hQ : ∀ σₚ, Fr (mdT 34 [vO 2, vI b]) σ σₚ → gF σₚ 2 2 = (s : Int) + 1 → s + 1 ≤ gL σₚ 2 1 → gL σ 2 1 ≤ gL σₚ 2 1 → (∀ i, i < s → gA σₚ 2 1 i = gA σ 2 1 i) → gA σₚ 2 1 s = w8 b → Q none σₚ) : Ct 1 34 k [vO 2, vI b] σ Q E := by
  refine ct_fine (fun hF hLo => ?_)
  refine ct_cp (P := fun r σₚ => r = none ∧ gF σₚ 2 2 = (s : Int) + 1 ∧ s + 1 ≤ gL σₚ 2 1 ∧ gL σ 2 1 ≤ gL σₚ 2 1 ∧ (∀ i, i < s → gA σₚ 2 1 i = gA σ 2 1 i) ∧ gA σₚ 2 1 s = w8 b) (fun Qₚ Eₚ hQₚ => ?_) (fun r σₚ f q => ?_)
  · have hT := hLo.1
    have tail : ∀ (σ1 : Sg) (w : Option AV), gF σ1 2 2 = (s : Int) → s < gL σ1 2 1 → gL σ 2 1 ≤ gL σ1 2 1 → (∀ i, i < s → gA σ1 2 1 i = gA σ 2 1 i) → gT σ1 = gT σ →
        Jx (mdZ (mdT 34 [vO 2, vI b])) 1 34 k [vO 2, vI b] σ (fun r σₚ => gT σₚ = gT σ ∧ Qₚ r σₚ) (fun _ _ => False) 40 [some (vO 2), some (vI b), w] [] σ1 := by
      intro σ1 w g1 g2 g3 g4 g5
      refine jx_seg (il := (fun _ => false)) (mc := true) (fun _ => grow_ok) 40 [] (by decide) rfl ?_
      repeat' (first | refine And.intro ?_ ?_ | (with_reducible intro c; try simp only [cmpI, cmpN, Classical.not_not, not_true_eq_false, not_false_eq_true, Int.reduceToNat, Int.toNat_natCast, tN_add, tN_add1, tN_sub1, gF_sF, gA_sF, gL_sF, gV_sF, gF_sA, gA_sA, gL_sA, gV_sA, gF_sB, gA_sB, gL_sB, gV_sB, gF_nA, gA_nA, gL_nA, gV_nA, gT_nA, gF_mV, gA_mV, gL_mV, gV_mV, gT_mV, gT_sB, gT_sA, gT_sF, gF_grw, gT_grw, gL_grw, gA_grw, elT, Nat.reduceEqDiff, eq_self, and_self, and_true, true_and, and_false, false_and, reduceIte, faA, qc_14_3, qc_15_2, qc_17_2, sbA] at c))
      all_goals (try first | exact rfl | exact True.intro | assumption | omega | (simp only [Int.reduceToNat, Int.toNat_natCast, tN_add, tN_add1, tN_sub1, gF_sF, gA_sF, gL_sF, gV_sF, gF_sA, gA_sA, gL_sA, gV_sA, gF_sB, gA_sB, gL_sB, gV_sB, gF_nA, gA_nA, gL_nA, gV_nA, gT_nA, gF_mV, gA_mV, gL_mV, gV_mV, gT_mV, gT_sB, gT_sA, gT_sF, gF_grw, gT_grw, gL_grw, gA_grw, elT, Nat.reduceEqDiff, eq_self, and_self, and_true, true_and, and_false, false_and, reduceIte, faA, qc_14_3, qc_15_2, qc_17_2, sbA]; omega) | (simp only [Int.reduceToNat, Int.toNat_natCast, tN_add, tN_add1, tN_sub1, gF_sF, gA_sF, gL_sF, gV_sF, gF_sA, gA_sA, gL_sA, gV_sA, gF_sB, gA_sB, gL_sB, gV_sB, gF_nA, gA_nA, gL_nA, gV_nA, gT_nA, gF_mV, gA_mV, gL_mV, gV_mV, gT_mV, gT_sB, gT_sA, gT_sF, gF_grw, gT_grw, gL_grw, gA_grw, elT, Nat.reduceEqDiff, eq_self, and_self, and_true, true_and, and_false, false_and, reduceIte, faA, qc_14_3, qc_15_2, qc_17_2, sbA]; done) | (simp only [Int.reduceToNat, Int.toNat_natCast, tN_add, tN_add1, tN_sub1, gF_sF, gA_sF, gL_sF, gV_sF, gF_sA, gA_sA, gL_sA, gV_sA, gF_sB, gA_sB, gL_sB, gV_sB, gF_nA, gA_nA, gL_nA, gV_nA, gT_nA, gF_mV, gA_mV, gL_mV, gV_mV, gT_mV, gT_sB, gT_sA, gT_sF, gF_grw, gT_grw, gL_grw, gA_grw, elT, Nat.reduceEqDiff, eq_self, and_self, and_true, true_and, and_false, false_and, reduceIte, faA, qc_14_3, qc_15_2, qc_17_2, sbA, grl]; split <;> omega) | (show 2 * gL _ _ _ ≤ gL _ _ _; simp only [Int.reduceToNat, Int.toNat_natCast, tN_add, tN_add1, tN_sub1, gF_sF, gA_sF, gL_sF, gV_sF, gF_sA, gA_sA, gL_sA, gV_sA, gF_sB, gA_sB, gL_sB, gV_sB, gF_nA, gA_nA, gL_nA, gV_nA, gT_nA, gF_mV, gA_mV, gL_mV, gV_mV, gT_mV, gT_sB, gT_sA, gT_sF, gF_grw, gT_grw, gL_grw, gA_grw, elT, Nat.reduceEqDiff, eq_self, and_self, and_true, true_and, and_false, false_and, reduceIte, faA, qc_14_3, qc_15_2, qc_17_2, sbA]; omega))
      refine hQₚ _ _ ⟨rfl, ?_, ?_, ?_, fun i hi => ?_, ?_⟩
      · simp only [Int.reduceToNat, Int.toNat_natCast, tN_add, tN_add1, tN_sub1, gF_sF, gA_sF, gL_sF, gV_sF, gF_sA, gA_sA, gL_sA, gV_sA, gF_sB, gA_sB, gL_sB, gV_sB, gF_nA, gA_nA, gL_nA, gV_nA, gT_nA, gF_mV, gA_mV, gL_mV, gV_mV, gT_mV, gT_sB, gT_sA, gT_sF, gF_grw, gT_grw, gL_grw, gA_grw, elT, Nat.reduceEqDiff, eq_self, and_self, and_true, true_and, and_false, false_and, reduceIte, faA, qc_14_3, qc_15_2, qc_17_2, sbA]; omega
      · simp only [Int.reduceToNat, Int.toNat_natCast, tN_add, tN_add1, tN_sub1, gF_sF, gA_sF, gL_sF, gV_sF, gF_sA, gA_sA, gL_sA, gV_sA, gF_sB, gA_sB, gL_sB, gV_sB, gF_nA, gA_nA, gL_nA, gV_nA, gT_nA, gF_mV, gA_mV, gL_mV, gV_mV, gT_mV, gT_sB, gT_sA, gT_sF, gF_grw, gT_grw, gL_grw, gA_grw, elT, Nat.reduceEqDiff, eq_self, and_self, and_true, true_and, and_false, false_and, reduceIte, faA, qc_14_3, qc_15_2, qc_17_2, sbA]; omega
      · simp only [Int.reduceToNat, Int.toNat_natCast, tN_add, tN_add1, tN_sub1, gF_sF, gA_sF, gL_sF, gV_sF, gF_sA, gA_sA, gL_sA, gV_sA, gF_sB, gA_sB, gL_sB, gV_sB, gF_nA, gA_nA, gL_nA, gV_nA, gT_nA, gF_mV, gA_mV, gL_mV, gV_mV, gT_mV, gT_sB, gT_sA, gT_sF, gF_grw, gT_grw, gL_grw, gA_grw, elT, Nat.reduceEqDiff, eq_self, and_self, and_true, true_and, and_false, false_and, reduceIte, faA, qc_14_3, qc_15_2, qc_17_2, sbA]; omega
      · simp only [Int.reduceToNat, Int.toNat_natCast, tN_add, tN_add1, tN_sub1, gF_sF, gA_sF, gL_sF, gV_sF, gF_sA, gA_sA, gL_sA, gV_sA, gF_sB, gA_sB, gL_sB, gV_sB, gF_nA, gA_nA, gL_nA, gV_nA, gT_nA, gF_mV, gA_mV, gL_mV, gV_mV, gT_mV, gT_sB, gT_sA, gT_sF, gF_grw, gT_grw, gL_grw, gA_grw, elT, Nat.reduceEqDiff, eq_self, and_self, and_true, true_and, and_false, false_and, reduceIte, faA, qc_14_3, qc_15_2, qc_17_2, sbA]
        rw [if_neg (by omega)]
        exact g4 i hi
      · simp only [Int.reduceToNat, Int.toNat_natCast, tN_add, tN_add1, tN_sub1, gF_sF, gA_sF, gL_sF, gV_sF, gF_sA, gA_sA, gL_sA, gV_sA, gF_sB, gA_sB, gL_sB, gV_sB, gF_nA, gA_nA, gL_nA, gV_nA, gT_nA, gF_mV, gA_mV, gL_mV, gV_mV, gT_mV, gT_sB, gT_sA, gT_sF, gF_grw, gT_grw, gL_grw, gA_grw, elT, Nat.reduceEqDiff, eq_self, and_self, and_true, true_and, and_false, false_and, reduceIte, faA, qc_14_3, qc_15_2, qc_17_2, sbA]
        rw [if_pos (by omega), w8_w8]
    refine ctz_seg (il := (fun _ => false)) (mc := true) (fun _ => grow_ok) 60 [40] (by decide) (Nat.le_of_ble_eq_true rfl) ?_
    repeat' (first | refine And.intro ?_ ?_ | (with_reducible intro c; try simp only [cmpI, cmpN, Classical.not_not, not_true_eq_false, not_false_eq_true, Int.reduceToNat, Int.toNat_natCast, tN_add, tN_add1, tN_sub1, gF_sF, gA_sF, gL_sF, gV_sF, gF_sA, gA_sA, gL_sA, gV_sA, gF_sB, gA_sB, gL_sB, gV_sB, gF_nA, gA_nA, gL_nA, gV_nA, gT_nA, gF_mV, gA_mV, gL_mV, gV_mV, gT_mV, gT_sB, gT_sA, gT_sF, gF_grw, gT_grw, gL_grw, gA_grw, elT, Nat.reduceEqDiff, eq_self, and_self, and_true, true_and, and_false, false_and, reduceIte, faA, qc_14_3, qc_15_2, qc_17_2, sbA] at c))
    all_goals (try first | exact rfl | exact True.intro | assumption | omega | (simp only [Int.reduceToNat, Int.toNat_natCast, tN_add, tN_add1, tN_sub1, gF_sF, gA_sF, gL_sF, gV_sF, gF_sA, gA_sA, gL_sA, gV_sA, gF_sB, gA_sB, gL_sB, gV_sB, gF_nA, gA_nA, gL_nA, gV_nA, gT_nA, gF_mV, gA_mV, gL_mV, gV_mV, gT_mV, gT_sB, gT_sA, gT_sF, gF_grw, gT_grw, gL_grw, gA_grw, elT, Nat.reduceEqDiff, eq_self, and_self, and_true, true_and, and_false, false_and, reduceIte, faA, qc_14_3, qc_15_2, qc_17_2, sbA]; omega) | (simp only [Int.reduceToNat, Int.toNat_natCast, tN_add, tN_add1, tN_sub1, gF_sF, gA_sF, gL_sF, gV_sF, gF_sA, gA_sA, gL_sA, gV_sA, gF_sB, gA_sB, gL_sB, gV_sB, gF_nA, gA_nA, gL_nA, gV_nA, gT_nA, gF_mV, gA_mV, gL_mV, gV_mV, gT_mV, gT_sB, gT_sA, gT_sF, gF_grw, gT_grw, gL_grw, gA_grw, elT, Nat.reduceEqDiff, eq_self, and_self, and_true, true_and, and_false, false_and, reduceIte, faA, qc_14_3, qc_15_2, qc_17_2, sbA]; done) | (simp only [Int.reduceToNat, Int.toNat_natCast, tN_add, tN_add1, tN_sub1, gF_sF, gA_sF, gL_sF, gV_sF, gF_sA, gA_sA, gL_sA, gV_sA, gF_sB, gA_sB, gL_sB, gV_sB, gF_nA, gA_nA, gL_nA, gV_nA, gT_nA, gF_mV, gA_mV, gL_mV, gV_mV, gT_mV, gT_sB, gT_sA, gT_sF, gF_grw, gT_grw, gL_grw, gA_grw, elT, Nat.reduceEqDiff, eq_self, and_self, and_true, true_and, and_false, false_and, reduceIte, faA, qc_14_3, qc_15_2, qc_17_2, sbA, grl]; split <;> omega) | (show 2 * gL _ _ _ ≤ gL _ _ _; simp only [Int.reduceToNat, Int.toNat_natCast, tN_add, tN_add1, tN_sub1, gF_sF, gA_sF, gL_sF, gV_sF, gF_sA, gA_sA, gL_sA, gV_sA, gF_sB, gA_sB, gL_sB, gV_sB, gF_nA, gA_nA, gL_nA, gV_nA, gT_nA, gF_mV, gA_mV, gL_mV, gV_mV, gT_mV, gT_sB, gT_sA, gT_sF, gF_grw, gT_grw, gL_grw, gA_grw, elT, Nat.reduceEqDiff, eq_self, and_self, and_true, true_and, and_false, false_and, reduceIte, faA, qc_14_3, qc_15_2, qc_17_2, sbA]; omega))
    · exact tail σ _ h1 (by omega) (Nat.le_refl _) (fun _ _ => rfl) rfl
    · exact tail (groS σ 1 (2 * gF σ 2 2).toNat 2 1 (gF σ 2 2).toNat) _ h1 (by rw [gro_L]; omega) (by rw [gro_L]; omega) (fun i hi => gro_A (by decide) (by omega)) gro_T
  · obtain ⟨rfl, q1, q2, q3, q4, q5⟩ := q
    exact hQ σₚ f q1 q2 q3 q4 q5
theorem c_get5 {k : Nat} {i : Int} {σ : Sg} {Q : Option AV → Sg → Prop} {E : Int → Sg → Prop} (h0 : 0 ≤ i) (h1 : i < gL σ 5 1) (hQ : ∀ x, x = gA σ 5 1 i.toNat % 256 → Q (some (vI x)) σ) : Ct 1 35 k [vO 5, vI i] σ Q E := by
  refine ct_seg (il := (fun _ => false)) (mc := true) (fun _ => grow_ok) 40 [] (by decide) (Nat.le_of_ble_eq_true rfl) ?_
  repeat' (first | refine And.intro ?_ ?_ | (with_reducible intro c; try simp only [cmpI, cmpN, Classical.not_not, not_true_eq_false, not_false_eq_true, Int.reduceToNat, Int.toNat_natCast, tN_add, tN_add1, tN_sub1, gF_sF, gA_sF, gL_sF, gV_sF, gF_sA, gA_sA, gL_sA, gV_sA, gF_sB, gA_sB, gL_sB, gV_sB, gF_nA, gA_nA, gL_nA, gV_nA, gT_nA, gF_mV, gA_mV, gL_mV, gV_mV, gT_mV, gT_sB, gT_sA, gT_sF, gF_grw, gT_grw, gL_grw, gA_grw, elT, Nat.reduceEqDiff, eq_self, and_self, and_true, true_and, and_false, false_and, reduceIte, faA, qc_14_3, qc_15_2, qc_17_2, sbA] at c))
  all_goals (try first | exact rfl | exact True.intro | assumption | omega | (simp only [Int.reduceToNat, Int.toNat_natCast, tN_add, tN_add1, tN_sub1, gF_sF, gA_sF, gL_sF, gV_sF, gF_sA, gA_sA, gL_sA, gV_sA, gF_sB, gA_sB, gL_sB, gV_sB, gF_nA, gA_nA, gL_nA, gV_nA, gT_nA, gF_mV, gA_mV, gL_mV, gV_mV, gT_mV, gT_sB, gT_sA, gT_sF, gF_grw, gT_grw, gL_grw, gA_grw, elT, Nat.reduceEqDiff, eq_self, and_self, and_true, true_and, and_false, false_and, reduceIte, faA, qc_14_3, qc_15_2, qc_17_2, sbA]; omega) | (simp only [Int.reduceToNat, Int.toNat_natCast, tN_add, tN_add1, tN_sub1, gF_sF, gA_sF, gL_sF, gV_sF, gF_sA, gA_sA, gL_sA, gV_sA, gF_sB, gA_sB, gL_sB, gV_sB, gF_nA, gA_nA, gL_nA, gV_nA, gT_nA, gF_mV, gA_mV, gL_mV, gV_mV, gT_mV, gT_sB, gT_sA, gT_sF, gF_grw, gT_grw, gL_grw, gA_grw, elT, Nat.reduceEqDiff, eq_self, and_self, and_true, true_and, and_false, false_and, reduceIte, faA, qc_14_3, qc_15_2, qc_17_2, sbA]; done) | (simp only [Int.reduceToNat, Int.toNat_natCast, tN_add, tN_add1, tN_sub1, gF_sF, gA_sF, gL_sF, gV_sF, gF_sA, gA_sA, gL_sA, gV_sA, gF_sB, gA_sB, gL_sB, gV_sB, gF_nA, gA_nA, gL_nA, gV_nA, gT_nA, gF_mV, gA_mV, gL_mV, gV_mV, gT_mV, gT_sB, gT_sA, gT_sF, gF_grw, gT_grw, gL_grw, gA_grw, elT, Nat.reduceEqDiff, eq_self, and_self, and_true, true_and, and_false, false_and, reduceIte, faA, qc_14_3, qc_15_2, qc_17_2, sbA, grl]; split <;> omega) | (show 2 * gL _ _ _ ≤ gL _ _ _; simp only [Int.reduceToNat, Int.toNat_natCast, tN_add, tN_add1, tN_sub1, gF_sF, gA_sF, gL_sF, gV_sF, gF_sA, gA_sA, gL_sA, gV_sA, gF_sB, gA_sB, gL_sB, gV_sB, gF_nA, gA_nA, gL_nA, gV_nA, gT_nA, gF_mV, gA_mV, gL_mV, gV_mV, gT_mV, gT_sB, gT_sA, gT_sF, gF_grw, gT_grw, gL_grw, gA_grw, elT, Nat.reduceEqDiff, eq_self, and_self, and_true, true_and, and_false, false_and, reduceIte, faA, qc_14_3, qc_15_2, qc_17_2, sbA]; omega))
  exact hQ _ (iAnd_255 _)
theorem c_add5 {k s : Nat} {b : Int} {σ : Sg} {Q : Option AV → Sg → Prop} {E : Int → Sg → Prop} (hk : 1 ≤ k) (h1 : gF σ 5 2 = (s : Int)) (h2 : s ≤ gL σ 5 1) (h3 : 64 ≤ gL σ 5 1) (h4 : s ≤ 1279)
    (hQ : ∀ σₚ, Fr (mdT 34 [vO 5, vI b]) σ σₚ → gF σₚ 5 2 = (s : Int) + 1 → s + 1 ≤ gL σₚ 5 1 → gL σ 5 1 ≤ gL σₚ 5 1 → (∀ i, i < s → gA σₚ 5 1 i = gA σ 5 1 i) → gA σₚ 5 1 s = w8 b → Q none σₚ) : Ct 1 34 k [vO 5, vI b] σ Q E := by
  refine ct_fine (fun hF hLo => ?_)
  refine ct_cp (P := fun r σₚ => r = none ∧ gF σₚ 5 2 = (s : Int) + 1 ∧ s + 1 ≤ gL σₚ 5 1 ∧ gL σ 5 1 ≤ gL σₚ 5 1 ∧ (∀ i, i < s → gA σₚ 5 1 i = gA σ 5 1 i) ∧ gA σₚ 5 1 s = w8 b) (fun Qₚ Eₚ hQₚ => ?_) (fun r σₚ f q => ?_)
  · have hT := hLo.1
    have tail : ∀ (σ1 : Sg) (w : Option AV), gF σ1 5 2 = (s : Int) → s < gL σ1 5 1 → gL σ 5 1 ≤ gL σ1 5 1 → (∀ i, i < s → gA σ1 5 1 i = gA σ 5 1 i) → gT σ1 = gT σ →
        Jx (mdZ (mdT 34 [vO 5, vI b])) 1 34 k [vO 5, vI b] σ (fun r σₚ => gT σₚ = gT σ ∧ Qₚ r σₚ) (fun _ _ => False) 40 [some (vO 5), some (vI b), w] [] σ1 := by
      intro σ1 w g1 g2 g3 g4 g5
      refine jx_seg (il := (fun _ => false)) (mc := true) (fun _ => grow_ok) 40 [] (by decide) rfl ?_
      repeat' (first | refine And.intro ?_ ?_ | (with_reducible intro c; try simp only [cmpI, cmpN, Classical.not_not, not_true_eq_false, not_false_eq_true, Int.reduceToNat, Int.toNat_natCast, tN_add, tN_add1, tN_sub1, gF_sF, gA_sF, gL_sF, gV_sF, gF_sA, gA_sA, gL_sA, gV_sA, gF_sB, gA_sB, gL_sB, gV_sB, gF_nA, gA_nA, gL_nA, gV_nA, gT_nA, gF_mV, gA_mV, gL_mV, gV_mV, gT_mV, gT_sB, gT_sA, gT_sF, gF_grw, gT_grw, gL_grw, gA_grw, elT, Nat.reduceEqDiff, eq_self, and_self, and_true, true_and, and_false, false_and, reduceIte, faA, qc_14_3, qc_15_2, qc_17_2, sbA] at c))
      all_goals (try first | exact rfl | exact True.intro | assumption | omega | (simp only [Int.reduceToNat, Int.toNat_natCast, tN_add, tN_add1, tN_sub1, gF_sF, gA_sF, gL_sF, gV_sF, gF_sA, gA_sA, gL_sA, gV_sA, gF_sB, gA_sB, gL_sB, gV_sB, gF_nA, gA_nA, gL_nA, gV_nA, gT_nA, gF_mV, gA_mV, gL_mV, gV_mV, gT_mV, gT_sB, gT_sA, gT_sF, gF_grw, gT_grw, gL_grw, gA_grw, elT, Nat.reduceEqDiff, eq_self, and_self, and_true, true_and, and_false, false_and, reduceIte, faA, qc_14_3, qc_15_2, qc_17_2, sbA]; omega) | (simp only [Int.reduceToNat, Int.toNat_natCast, tN_add, tN_add1, tN_sub1, gF_sF, gA_sF, gL_sF, gV_sF, gF_sA, gA_sA, gL_sA, gV_sA, gF_sB, gA_sB, gL_sB, gV_sB, gF_nA, gA_nA, gL_nA, gV_nA, gT_nA, gF_mV, gA_mV, gL_mV, gV_mV, gT_mV, gT_sB, gT_sA, gT_sF, gF_grw, gT_grw, gL_grw, gA_grw, elT, Nat.reduceEqDiff, eq_self, and_self, and_true, true_and, and_false, false_and, reduceIte, faA, qc_14_3, qc_15_2, qc_17_2, sbA]; done) | (simp only [Int.reduceToNat, Int.toNat_natCast, tN_add, tN_add1, tN_sub1, gF_sF, gA_sF, gL_sF, gV_sF, gF_sA, gA_sA, gL_sA, gV_sA, gF_sB, gA_sB, gL_sB, gV_sB, gF_nA, gA_nA, gL_nA, gV_nA, gT_nA, gF_mV, gA_mV, gL_mV, gV_mV, gT_mV, gT_sB, gT_sA, gT_sF, gF_grw, gT_grw, gL_grw, gA_grw, elT, Nat.reduceEqDiff, eq_self, and_self, and_true, true_and, and_false, false_and, reduceIte, faA, qc_14_3, qc_15_2, qc_17_2, sbA, grl]; split <;> omega) | (show 2 * gL _ _ _ ≤ gL _ _ _; simp only [Int.reduceToNat, Int.toNat_natCast, tN_add, tN_add1, tN_sub1, gF_sF, gA_sF, gL_sF, gV_sF, gF_sA, gA_sA, gL_sA, gV_sA, gF_sB, gA_sB, gL_sB, gV_sB, gF_nA, gA_nA, gL_nA, gV_nA, gT_nA, gF_mV, gA_mV, gL_mV, gV_mV, gT_mV, gT_sB, gT_sA, gT_sF, gF_grw, gT_grw, gL_grw, gA_grw, elT, Nat.reduceEqDiff, eq_self, and_self, and_true, true_and, and_false, false_and, reduceIte, faA, qc_14_3, qc_15_2, qc_17_2, sbA]; omega))
      refine hQₚ _ _ ⟨rfl, ?_, ?_, ?_, fun i hi => ?_, ?_⟩
      · simp only [Int.reduceToNat, Int.toNat_natCast, tN_add, tN_add1, tN_sub1, gF_sF, gA_sF, gL_sF, gV_sF, gF_sA, gA_sA, gL_sA, gV_sA, gF_sB, gA_sB, gL_sB, gV_sB, gF_nA, gA_nA, gL_nA, gV_nA, gT_nA, gF_mV, gA_mV, gL_mV, gV_mV, gT_mV, gT_sB, gT_sA, gT_sF, gF_grw, gT_grw, gL_grw, gA_grw, elT, Nat.reduceEqDiff, eq_self, and_self, and_true, true_and, and_false, false_and, reduceIte, faA, qc_14_3, qc_15_2, qc_17_2, sbA]; omega
      · simp only [Int.reduceToNat, Int.toNat_natCast, tN_add, tN_add1, tN_sub1, gF_sF, gA_sF, gL_sF, gV_sF, gF_sA, gA_sA, gL_sA, gV_sA, gF_sB, gA_sB, gL_sB, gV_sB, gF_nA, gA_nA, gL_nA, gV_nA, gT_nA, gF_mV, gA_mV, gL_mV, gV_mV, gT_mV, gT_sB, gT_sA, gT_sF, gF_grw, gT_grw, gL_grw, gA_grw, elT, Nat.reduceEqDiff, eq_self, and_self, and_true, true_and, and_false, false_and, reduceIte, faA, qc_14_3, qc_15_2, qc_17_2, sbA]; omega
      · simp only [Int.reduceToNat, Int.toNat_natCast, tN_add, tN_add1, tN_sub1, gF_sF, gA_sF, gL_sF, gV_sF, gF_sA, gA_sA, gL_sA, gV_sA, gF_sB, gA_sB, gL_sB, gV_sB, gF_nA, gA_nA, gL_nA, gV_nA, gT_nA, gF_mV, gA_mV, gL_mV, gV_mV, gT_mV, gT_sB, gT_sA, gT_sF, gF_grw, gT_grw, gL_grw, gA_grw, elT, Nat.reduceEqDiff, eq_self, and_self, and_true, true_and, and_false, false_and, reduceIte, faA, qc_14_3, qc_15_2, qc_17_2, sbA]; omega
      · simp only [Int.reduceToNat, Int.toNat_natCast, tN_add, tN_add1, tN_sub1, gF_sF, gA_sF, gL_sF, gV_sF, gF_sA, gA_sA, gL_sA, gV_sA, gF_sB, gA_sB, gL_sB, gV_sB, gF_nA, gA_nA, gL_nA, gV_nA, gT_nA, gF_mV, gA_mV, gL_mV, gV_mV, gT_mV, gT_sB, gT_sA, gT_sF, gF_grw, gT_grw, gL_grw, gA_grw, elT, Nat.reduceEqDiff, eq_self, and_self, and_true, true_and, and_false, false_and, reduceIte, faA, qc_14_3, qc_15_2, qc_17_2, sbA]
        rw [if_neg (by omega)]
        exact g4 i hi
      · simp only [Int.reduceToNat, Int.toNat_natCast, tN_add, tN_add1, tN_sub1, gF_sF, gA_sF, gL_sF, gV_sF, gF_sA, gA_sA, gL_sA, gV_sA, gF_sB, gA_sB, gL_sB, gV_sB, gF_nA, gA_nA, gL_nA, gV_nA, gT_nA, gF_mV, gA_mV, gL_mV, gV_mV, gT_mV, gT_sB, gT_sA, gT_sF, gF_grw, gT_grw, gL_grw, gA_grw, elT, Nat.reduceEqDiff, eq_self, and_self, and_true, true_and, and_false, false_and, reduceIte, faA, qc_14_3, qc_15_2, qc_17_2, sbA]
        rw [if_pos (by omega), w8_w8]
    refine ctz_seg (il := (fun _ => false)) (mc := true) (fun _ => grow_ok) 60 [40] (by decide) (Nat.le_of_ble_eq_true rfl) ?_
    repeat' (first | refine And.intro ?_ ?_ | (with_reducible intro c; try simp only [cmpI, cmpN, Classical.not_not, not_true_eq_false, not_false_eq_true, Int.reduceToNat, Int.toNat_natCast, tN_add, tN_add1, tN_sub1, gF_sF, gA_sF, gL_sF, gV_sF, gF_sA, gA_sA, gL_sA, gV_sA, gF_sB, gA_sB, gL_sB, gV_sB, gF_nA, gA_nA, gL_nA, gV_nA, gT_nA, gF_mV, gA_mV, gL_mV, gV_mV, gT_mV, gT_sB, gT_sA, gT_sF, gF_grw, gT_grw, gL_grw, gA_grw, elT, Nat.reduceEqDiff, eq_self, and_self, and_true, true_and, and_false, false_and, reduceIte, faA, qc_14_3, qc_15_2, qc_17_2, sbA] at c))
    all_goals (try first | exact rfl | exact True.intro | assumption | omega | (simp only [Int.reduceToNat, Int.toNat_natCast, tN_add, tN_add1, tN_sub1, gF_sF, gA_sF, gL_sF, gV_sF, gF_sA, gA_sA, gL_sA, gV_sA, gF_sB, gA_sB, gL_sB, gV_sB, gF_nA, gA_nA, gL_nA, gV_nA, gT_nA, gF_mV, gA_mV, gL_mV, gV_mV, gT_mV, gT_sB, gT_sA, gT_sF, gF_grw, gT_grw, gL_grw, gA_grw, elT, Nat.reduceEqDiff, eq_self, and_self, and_true, true_and, and_false, false_and, reduceIte, faA, qc_14_3, qc_15_2, qc_17_2, sbA]; omega) | (simp only [Int.reduceToNat, Int.toNat_natCast, tN_add, tN_add1, tN_sub1, gF_sF, gA_sF, gL_sF, gV_sF, gF_sA, gA_sA, gL_sA, gV_sA, gF_sB, gA_sB, gL_sB, gV_sB, gF_nA, gA_nA, gL_nA, gV_nA, gT_nA, gF_mV, gA_mV, gL_mV, gV_mV, gT_mV, gT_sB, gT_sA, gT_sF, gF_grw, gT_grw, gL_grw, gA_grw, elT, Nat.reduceEqDiff, eq_self, and_self, and_true, true_and, and_false, false_and, reduceIte, faA, qc_14_3, qc_15_2, qc_17_2, sbA]; done) | (simp only [Int.reduceToNat, Int.toNat_natCast, tN_add, tN_add1, tN_sub1, gF_sF, gA_sF, gL_sF, gV_sF, gF_sA, gA_sA, gL_sA, gV_sA, gF_sB, gA_sB, gL_sB, gV_sB, gF_nA, gA_nA, gL_nA, gV_nA, gT_nA, gF_mV, gA_mV, gL_mV, gV_mV, gT_mV, gT_sB, gT_sA, gT_sF, gF_grw, gT_grw, gL_grw, gA_grw, elT, Nat.reduceEqDiff, eq_self, and_self, and_true, true_and, and_false, false_and, reduceIte, faA, qc_14_3, qc_15_2, qc_17_2, sbA, grl]; split <;> omega) | (show 2 * gL _ _ _ ≤ gL _ _ _; simp only [Int.reduceToNat, Int.toNat_natCast, tN_add, tN_add1, tN_sub1, gF_sF, gA_sF, gL_sF, gV_sF, gF_sA, gA_sA, gL_sA, gV_sA, gF_sB, gA_sB, gL_sB, gV_sB, gF_nA, gA_nA, gL_nA, gV_nA, gT_nA, gF_mV, gA_mV, gL_mV, gV_mV, gT_mV, gT_sB, gT_sA, gT_sF, gF_grw, gT_grw, gL_grw, gA_grw, elT, Nat.reduceEqDiff, eq_self, and_self, and_true, true_and, and_false, false_and, reduceIte, faA, qc_14_3, qc_15_2, qc_17_2, sbA]; omega))
    · exact tail σ _ h1 (by omega) (Nat.le_refl _) (fun _ _ => rfl) rfl
    · exact tail (groS σ 1 (2 * gF σ 5 2).toNat 5 1 (gF σ 5 2).toNat) _ h1 (by rw [gro_L]; omega) (by rw [gro_L]; omega) (fun i hi => gro_A (by decide) (by omega)) gro_T
  · obtain ⟨rfl, q1, q2, q3, q4, q5⟩ := q
    exact hQ σₚ f q1 q2 q3 q4 q5
end
section
/-! Names: object 4, its letters in 5 -/
set_option maxRecDepth 100000
def mixH : List Int → Int → Int
  | [], h => h
  | b :: l, h => mixH l (w32 (w32 (31 * h) + b))
def mixF (l : List Int) : Int := iXor (mixH l l.length) (iUsh (mixH l l.length) 11)
def hsh (L : Nat) (l : List Int) : Nat := (mixF l % (L : Int)).toNat
/-- bytes of an object from a place on -/
def Bt (σ : Sg) (o p : Nat) (l : List Int) : Prop := p + l.length ≤ gL σ o 1 ∧ ∀ q, q < l.length → gA σ o 1 (p + q) % 256 = l.getD q 0
/-- where the letters of a name begin; they themselves -/
def nmO (NS : List (List Int)) (k : Nat) : Nat := ((NS.take k).map List.length).sum
def nmT (NS : List (List Int)) (k : Nat) : List Int := NS.getD k []
/-- names but for their table -/
def NmB (σ : Sg) (NS : List (List Int)) : Prop := gF σ 4 3 = (NS.length : Int) ∧ gF σ 5 2 = (nmO NS NS.length : Int) ∧ (NS.length + 1 ≤ gL σ 4 2 ∧ nmO NS NS.length ≤ gL σ 5 1 ∧ 16 ≤ gL σ 4 2 ∧ 64 ≤ gL σ 5 1) ∧
  (∀ k, k ≤ NS.length → gA σ 4 2 k = (nmO NS k : Int)) ∧ (∀ k, k < NS.length → Bt σ 5 (nmO NS k) (nmT NS k)) ∧ NS.Nodup ∧ (nmO NS NS.length ≤ 1279 ∧ NS.length ≤ 1000) ∧ (∃ e, 6 ≤ e ∧ e ≤ 12 ∧ gL σ 4 4 = 2 ^ e)
/-- the first c names lie in the table -/
def NmT (σ : Sg) (NS : List (List Int)) (c : Nat) : Prop := TB (gA σ 4 4) (gL σ 4 4) (fun e => 0 < e ∧ e ≤ c) (fun e => hsh (gL σ 4 4) (nmT NS (e - 1)))
def NmIs (σ : Sg) (NS : List (List Int)) : Prop := NmB σ NS ∧ NmT σ NS NS.length ∧ 2 * NS.length ≤ gL σ 4 4
theorem nmO_succ {NS : List (List Int)} {k : Nat} (h : k < NS.length) : nmO NS (k + 1) = nmO NS k + (nmT NS k).length := by
  unfold nmO nmT
  rw [List.take_succ_eq_append_getElem h, List.map_append, List.sum_append, List.getD_eq_getElem?_getD, List.getElem?_eq_getElem h]
  simp
theorem nmO_mono {NS : List (List Int)} : ∀ {m k : Nat}, k + m ≤ NS.length → nmO NS k ≤ nmO NS (k + m)
  | 0, k, _ => Nat.le_refl _
  | m + 1, k, h => by
    have h1 := nmO_mono (m := m) (k := k) (NS := NS) (by omega)
    have h2 := nmO_succ (NS := NS) (k := k + m) (by omega)
    rw [show k + (m + 1) = k + m + 1 by omega]
    omega
theorem nmO_le {NS : List (List Int)} {k : Nat} (h : k ≤ NS.length) : nmO NS k ≤ nmO NS NS.length := by
  have := nmO_mono (NS := NS) (m := NS.length - k) (k := k) (by omega)
  rw [show k + (NS.length - k) = NS.length by omega] at this
  exact this
theorem c_mix2 {k p : Nat} {l : List Int} {ai ni : Int} {σ : Sg} {Q : Option AV → Sg → Prop} {E : Int → Sg → Prop} (hk : 1 ≤ k) (hB : Bt σ 2 p l) (hs : p + l.length ≤ 100000) (ha : ai = (p : Int)) (hn : ni = (l.length : Int)) (hQ : ∀ x, x = mixF l → Q (some (vI x)) σ) : Ct 1 40 k [vO 2, vI ai, vI ni] σ Q E := by
  subst ha hn
  have hw : w32 ((p : Int) + (l.length : Int)) = (p : Int) + (l.length : Int) := w32_id ⟨by omega, by omega⟩
  have loop : ∀ (r : List Int) (q : Nat) (h : Int), l.drop q = r → mixH r h = mixH l l.length → Jx (mdT 40 [vO 2, vI (p : Int), vI (l.length : Int)]) 1 40 k [vO 2, vI (p : Int), vI (l.length : Int)] σ Q E 5 [some (vO 2), some (vI (p : Int)), some (vI (l.length : Int)), some (vI h), some (vI ((p + q : Nat) : Int))] [] σ := by
    intro r
    induction r with
    | nil =>
      intro q h hd hm
      have hq : l.length ≤ q := List.drop_eq_nil_iff.mp hd
      refine jx_seg (il := (fun _ => false)) (mc := true) (fun _ => grow_ok) 40 [5] (by decide) rfl ?_
      repeat' (first | refine And.intro ?_ ?_ | (with_reducible intro c; try simp only [cmpI, cmpN, Classical.not_not, not_true_eq_false, not_false_eq_true, Int.reduceToNat, Int.toNat_natCast, tN_add, tN_add1, tN_sub1, gF_sF, gA_sF, gL_sF, gV_sF, gF_sA, gA_sA, gL_sA, gV_sA, gF_sB, gA_sB, gL_sB, gV_sB, gF_nA, gA_nA, gL_nA, gV_nA, gT_nA, gF_mV, gA_mV, gL_mV, gV_mV, gT_mV, gT_sB, gT_sA, gT_sF, gF_grw, gT_grw, gL_grw, gA_grw, elT, Nat.reduceEqDiff, eq_self, and_self, and_true, true_and, and_false, false_and, reduceIte, faA, qc_14_3, qc_15_2, qc_17_2, sbA] at c))
      all_goals (try first | exact rfl | exact True.intro | assumption | omega | (simp only [Int.reduceToNat, Int.toNat_natCast, tN_add, tN_add1, tN_sub1, gF_sF, gA_sF, gL_sF, gV_sF, gF_sA, gA_sA, gL_sA, gV_sA, gF_sB, gA_sB, gL_sB, gV_sB, gF_nA, gA_nA, gL_nA, gV_nA, gT_nA, gF_mV, gA_mV, gL_mV, gV_mV, gT_mV, gT_sB, gT_sA, gT_sF, gF_grw, gT_grw, gL_grw, gA_grw, elT, Nat.reduceEqDiff, eq_self, and_self, and_true, true_and, and_false, false_and, reduceIte, faA, qc_14_3, qc_15_2, qc_17_2, sbA]; omega) | (simp only [Int.reduceToNat, Int.toNat_natCast, tN_add, tN_add1, tN_sub1, gF_sF, gA_sF, gL_sF, gV_sF, gF_sA, gA_sA, gL_sA, gV_sA, gF_sB, gA_sB, gL_sB, gV_sB, gF_nA, gA_nA, gL_nA, gV_nA, gT_nA, gF_mV, gA_mV, gL_mV, gV_mV, gT_mV, gT_sB, gT_sA, gT_sF, gF_grw, gT_grw, gL_grw, gA_grw, elT, Nat.reduceEqDiff, eq_self, and_self, and_true, true_and, and_false, false_and, reduceIte, faA, qc_14_3, qc_15_2, qc_17_2, sbA]; done) | (simp only [Int.reduceToNat, Int.toNat_natCast, tN_add, tN_add1, tN_sub1, gF_sF, gA_sF, gL_sF, gV_sF, gF_sA, gA_sA, gL_sA, gV_sA, gF_sB, gA_sB, gL_sB, gV_sB, gF_nA, gA_nA, gL_nA, gV_nA, gT_nA, gF_mV, gA_mV, gL_mV, gV_mV, gT_mV, gT_sB, gT_sA, gT_sF, gF_grw, gT_grw, gL_grw, gA_grw, elT, Nat.reduceEqDiff, eq_self, and_self, and_true, true_and, and_false, false_and, reduceIte, faA, qc_14_3, qc_15_2, qc_17_2, sbA, grl]; split <;> omega) | (show 2 * gL _ _ _ ≤ gL _ _ _; simp only [Int.reduceToNat, Int.toNat_natCast, tN_add, tN_add1, tN_sub1, gF_sF, gA_sF, gL_sF, gV_sF, gF_sA, gA_sA, gL_sA, gV_sA, gF_sB, gA_sB, gL_sB, gV_sB, gF_nA, gA_nA, gL_nA, gV_nA, gT_nA, gF_mV, gA_mV, gL_mV, gV_mV, gT_mV, gT_sB, gT_sA, gT_sF, gF_grw, gT_grw, gL_grw, gA_grw, elT, Nat.reduceEqDiff, eq_self, and_self, and_true, true_and, and_false, false_and, reduceIte, faA, qc_14_3, qc_15_2, qc_17_2, sbA]; omega))
      exact hQ _ (by unfold mixF; rw [← hm]; rfl)
    | cons b r ih =>
      intro q h hd hm
      obtain ⟨hq, hb, hd2⟩ := getD_drop hd
      refine jx_seg (il := (fun _ => false)) (mc := true) (fun _ => grow_ok) 40 [5] (by decide) rfl ?_
      repeat' (first | refine And.intro ?_ ?_ | (with_reducible intro c; try simp only [cmpI, cmpN, Classical.not_not, not_true_eq_false, not_false_eq_true, Int.reduceToNat, Int.toNat_natCast, tN_add, tN_add1, tN_sub1, gF_sF, gA_sF, gL_sF, gV_sF, gF_sA, gA_sA, gL_sA, gV_sA, gF_sB, gA_sB, gL_sB, gV_sB, gF_nA, gA_nA, gL_nA, gV_nA, gT_nA, gF_mV, gA_mV, gL_mV, gV_mV, gT_mV, gT_sB, gT_sA, gT_sF, gF_grw, gT_grw, gL_grw, gA_grw, elT, Nat.reduceEqDiff, eq_self, and_self, and_true, true_and, and_false, false_and, reduceIte, faA, qc_14_3, qc_15_2, qc_17_2, sbA] at c))
      all_goals (try first | exact rfl | exact True.intro | assumption | omega | (simp only [Int.reduceToNat, Int.toNat_natCast, tN_add, tN_add1, tN_sub1, gF_sF, gA_sF, gL_sF, gV_sF, gF_sA, gA_sA, gL_sA, gV_sA, gF_sB, gA_sB, gL_sB, gV_sB, gF_nA, gA_nA, gL_nA, gV_nA, gT_nA, gF_mV, gA_mV, gL_mV, gV_mV, gT_mV, gT_sB, gT_sA, gT_sF, gF_grw, gT_grw, gL_grw, gA_grw, elT, Nat.reduceEqDiff, eq_self, and_self, and_true, true_and, and_false, false_and, reduceIte, faA, qc_14_3, qc_15_2, qc_17_2, sbA]; omega) | (simp only [Int.reduceToNat, Int.toNat_natCast, tN_add, tN_add1, tN_sub1, gF_sF, gA_sF, gL_sF, gV_sF, gF_sA, gA_sA, gL_sA, gV_sA, gF_sB, gA_sB, gL_sB, gV_sB, gF_nA, gA_nA, gL_nA, gV_nA, gT_nA, gF_mV, gA_mV, gL_mV, gV_mV, gT_mV, gT_sB, gT_sA, gT_sF, gF_grw, gT_grw, gL_grw, gA_grw, elT, Nat.reduceEqDiff, eq_self, and_self, and_true, true_and, and_false, false_and, reduceIte, faA, qc_14_3, qc_15_2, qc_17_2, sbA]; done) | (simp only [Int.reduceToNat, Int.toNat_natCast, tN_add, tN_add1, tN_sub1, gF_sF, gA_sF, gL_sF, gV_sF, gF_sA, gA_sA, gL_sA, gV_sA, gF_sB, gA_sB, gL_sB, gV_sB, gF_nA, gA_nA, gL_nA, gV_nA, gT_nA, gF_mV, gA_mV, gL_mV, gV_mV, gT_mV, gT_sB, gT_sA, gT_sF, gF_grw, gT_grw, gL_grw, gA_grw, elT, Nat.reduceEqDiff, eq_self, and_self, and_true, true_and, and_false, false_and, reduceIte, faA, qc_14_3, qc_15_2, qc_17_2, sbA, grl]; split <;> omega) | (show 2 * gL _ _ _ ≤ gL _ _ _; simp only [Int.reduceToNat, Int.toNat_natCast, tN_add, tN_add1, tN_sub1, gF_sF, gA_sF, gL_sF, gV_sF, gF_sA, gA_sA, gL_sA, gV_sA, gF_sB, gA_sB, gL_sB, gV_sB, gF_nA, gA_nA, gL_nA, gV_nA, gT_nA, gF_mV, gA_mV, gL_mV, gV_mV, gT_mV, gT_sB, gT_sA, gT_sF, gF_grw, gT_grw, gL_grw, gA_grw, elT, Nat.reduceEqDiff, eq_self, and_self, and_true, true_and, and_false, false_and, reduceIte, faA, qc_14_3, qc_15_2, qc_17_2, sbA]; omega))
      refine c_get2 ?_ ?_ (fun x hx => ?_)
      · omega
      · have := hB.1; omega
      have hx : x = gA σ 2 1 (p + q) % 256 := hx
      rw [hB.2 q hq, hb] at hx
      subst hx
      repeat' (first | refine And.intro ?_ ?_ | (with_reducible intro c; try simp only [cmpI, cmpN, Classical.not_not, not_true_eq_false, not_false_eq_true, Int.reduceToNat, Int.toNat_natCast, tN_add, tN_add1, tN_sub1, gF_sF, gA_sF, gL_sF, gV_sF, gF_sA, gA_sA, gL_sA, gV_sA, gF_sB, gA_sB, gL_sB, gV_sB, gF_nA, gA_nA, gL_nA, gV_nA, gT_nA, gF_mV, gA_mV, gL_mV, gV_mV, gT_mV, gT_sB, gT_sA, gT_sF, gF_grw, gT_grw, gL_grw, gA_grw, elT, Nat.reduceEqDiff, eq_self, and_self, and_true, true_and, and_false, false_and, reduceIte, faA, qc_14_3, qc_15_2, qc_17_2, sbA] at c))
      all_goals (try first | exact rfl | exact True.intro | assumption | omega | (simp only [Int.reduceToNat, Int.toNat_natCast, tN_add, tN_add1, tN_sub1, gF_sF, gA_sF, gL_sF, gV_sF, gF_sA, gA_sA, gL_sA, gV_sA, gF_sB, gA_sB, gL_sB, gV_sB, gF_nA, gA_nA, gL_nA, gV_nA, gT_nA, gF_mV, gA_mV, gL_mV, gV_mV, gT_mV, gT_sB, gT_sA, gT_sF, gF_grw, gT_grw, gL_grw, gA_grw, elT, Nat.reduceEqDiff, eq_self, and_self, and_true, true_and, and_false, false_and, reduceIte, faA, qc_14_3, qc_15_2, qc_17_2, sbA]; omega) | (simp only [Int.reduceToNat, Int.toNat_natCast, tN_add, tN_add1, tN_sub1, gF_sF, gA_sF, gL_sF, gV_sF, gF_sA, gA_sA, gL_sA, gV_sA, gF_sB, gA_sB, gL_sB, gV_sB, gF_nA, gA_nA, gL_nA, gV_nA, gT_nA, gF_mV, gA_mV, gL_mV, gV_mV, gT_mV, gT_sB, gT_sA, gT_sF, gF_grw, gT_grw, gL_grw, gA_grw, elT, Nat.reduceEqDiff, eq_self, and_self, and_true, true_and, and_false, false_and, reduceIte, faA, qc_14_3, qc_15_2, qc_17_2, sbA]; done) | (simp only [Int.reduceToNat, Int.toNat_natCast, tN_add, tN_add1, tN_sub1, gF_sF, gA_sF, gL_sF, gV_sF, gF_sA, gA_sA, gL_sA, gV_sA, gF_sB, gA_sB, gL_sB, gV_sB, gF_nA, gA_nA, gL_nA, gV_nA, gT_nA, gF_mV, gA_mV, gL_mV, gV_mV, gT_mV, gT_sB, gT_sA, gT_sF, gF_grw, gT_grw, gL_grw, gA_grw, elT, Nat.reduceEqDiff, eq_self, and_self, and_true, true_and, and_false, false_and, reduceIte, faA, qc_14_3, qc_15_2, qc_17_2, sbA, grl]; split <;> omega) | (show 2 * gL _ _ _ ≤ gL _ _ _; simp only [Int.reduceToNat, Int.toNat_natCast, tN_add, tN_add1, tN_sub1, gF_sF, gA_sF, gL_sF, gV_sF, gF_sA, gA_sA, gL_sA, gV_sA, gF_sB, gA_sB, gL_sB, gV_sB, gF_nA, gA_nA, gL_nA, gV_nA, gT_nA, gF_mV, gA_mV, gL_mV, gV_mV, gT_mV, gT_sB, gT_sA, gT_sF, gF_grw, gT_grw, gL_grw, gA_grw, elT, Nat.reduceEqDiff, eq_self, and_self, and_true, true_and, and_false, false_and, reduceIte, faA, qc_14_3, qc_15_2, qc_17_2, sbA]; omega))
      exact ih (q + 1) _ hd2 hm
  refine ct_seg (il := (fun _ => false)) (mc := true) (fun _ => grow_ok) 40 [5] (by decide) (Nat.le_of_ble_eq_true rfl) ?_
  exact loop l 0 _ rfl rfl
theorem c_mix5 {k p : Nat} {l : List Int} {ai ni : Int} {σ : Sg} {Q : Option AV → Sg → Prop} {E : Int → Sg → Prop} (hk : 1 ≤ k) (hB : Bt σ 5 p l) (hs : p + l.length ≤ 100000) (ha : ai = (p : Int)) (hn : ni = (l.length : Int)) (hQ : ∀ x, x = mixF l → Q (some (vI x)) σ) : Ct 1 40 k [vO 5, vI ai, vI ni] σ Q E := by
  subst ha hn
  have hw : w32 ((p : Int) + (l.length : Int)) = (p : Int) + (l.length : Int) := w32_id ⟨by omega, by omega⟩
  have loop : ∀ (r : List Int) (q : Nat) (h : Int), l.drop q = r → mixH r h = mixH l l.length → Jx (mdT 40 [vO 5, vI (p : Int), vI (l.length : Int)]) 1 40 k [vO 5, vI (p : Int), vI (l.length : Int)] σ Q E 5 [some (vO 5), some (vI (p : Int)), some (vI (l.length : Int)), some (vI h), some (vI ((p + q : Nat) : Int))] [] σ := by
    intro r
    induction r with
    | nil =>
      intro q h hd hm
      have hq : l.length ≤ q := List.drop_eq_nil_iff.mp hd
      refine jx_seg (il := (fun _ => false)) (mc := true) (fun _ => grow_ok) 40 [5] (by decide) rfl ?_
      repeat' (first | refine And.intro ?_ ?_ | (with_reducible intro c; try simp only [cmpI, cmpN, Classical.not_not, not_true_eq_false, not_false_eq_true, Int.reduceToNat, Int.toNat_natCast, tN_add, tN_add1, tN_sub1, gF_sF, gA_sF, gL_sF, gV_sF, gF_sA, gA_sA, gL_sA, gV_sA, gF_sB, gA_sB, gL_sB, gV_sB, gF_nA, gA_nA, gL_nA, gV_nA, gT_nA, gF_mV, gA_mV, gL_mV, gV_mV, gT_mV, gT_sB, gT_sA, gT_sF, gF_grw, gT_grw, gL_grw, gA_grw, elT, Nat.reduceEqDiff, eq_self, and_self, and_true, true_and, and_false, false_and, reduceIte, faA, qc_14_3, qc_15_2, qc_17_2, sbA] at c))
      all_goals (try first | exact rfl | exact True.intro | assumption | omega | (simp only [Int.reduceToNat, Int.toNat_natCast, tN_add, tN_add1, tN_sub1, gF_sF, gA_sF, gL_sF, gV_sF, gF_sA, gA_sA, gL_sA, gV_sA, gF_sB, gA_sB, gL_sB, gV_sB, gF_nA, gA_nA, gL_nA, gV_nA, gT_nA, gF_mV, gA_mV, gL_mV, gV_mV, gT_mV, gT_sB, gT_sA, gT_sF, gF_grw, gT_grw, gL_grw, gA_grw, elT, Nat.reduceEqDiff, eq_self, and_self, and_true, true_and, and_false, false_and, reduceIte, faA, qc_14_3, qc_15_2, qc_17_2, sbA]; omega) | (simp only [Int.reduceToNat, Int.toNat_natCast, tN_add, tN_add1, tN_sub1, gF_sF, gA_sF, gL_sF, gV_sF, gF_sA, gA_sA, gL_sA, gV_sA, gF_sB, gA_sB, gL_sB, gV_sB, gF_nA, gA_nA, gL_nA, gV_nA, gT_nA, gF_mV, gA_mV, gL_mV, gV_mV, gT_mV, gT_sB, gT_sA, gT_sF, gF_grw, gT_grw, gL_grw, gA_grw, elT, Nat.reduceEqDiff, eq_self, and_self, and_true, true_and, and_false, false_and, reduceIte, faA, qc_14_3, qc_15_2, qc_17_2, sbA]; done) | (simp only [Int.reduceToNat, Int.toNat_natCast, tN_add, tN_add1, tN_sub1, gF_sF, gA_sF, gL_sF, gV_sF, gF_sA, gA_sA, gL_sA, gV_sA, gF_sB, gA_sB, gL_sB, gV_sB, gF_nA, gA_nA, gL_nA, gV_nA, gT_nA, gF_mV, gA_mV, gL_mV, gV_mV, gT_mV, gT_sB, gT_sA, gT_sF, gF_grw, gT_grw, gL_grw, gA_grw, elT, Nat.reduceEqDiff, eq_self, and_self, and_true, true_and, and_false, false_and, reduceIte, faA, qc_14_3, qc_15_2, qc_17_2, sbA, grl]; split <;> omega) | (show 2 * gL _ _ _ ≤ gL _ _ _; simp only [Int.reduceToNat, Int.toNat_natCast, tN_add, tN_add1, tN_sub1, gF_sF, gA_sF, gL_sF, gV_sF, gF_sA, gA_sA, gL_sA, gV_sA, gF_sB, gA_sB, gL_sB, gV_sB, gF_nA, gA_nA, gL_nA, gV_nA, gT_nA, gF_mV, gA_mV, gL_mV, gV_mV, gT_mV, gT_sB, gT_sA, gT_sF, gF_grw, gT_grw, gL_grw, gA_grw, elT, Nat.reduceEqDiff, eq_self, and_self, and_true, true_and, and_false, false_and, reduceIte, faA, qc_14_3, qc_15_2, qc_17_2, sbA]; omega))
      exact hQ _ (by unfold mixF; rw [← hm]; rfl)
    | cons b r ih =>
      intro q h hd hm
      obtain ⟨hq, hb, hd2⟩ := getD_drop hd
      refine jx_seg (il := (fun _ => false)) (mc := true) (fun _ => grow_ok) 40 [5] (by decide) rfl ?_
      repeat' (first | refine And.intro ?_ ?_ | (with_reducible intro c; try simp only [cmpI, cmpN, Classical.not_not, not_true_eq_false, not_false_eq_true, Int.reduceToNat, Int.toNat_natCast, tN_add, tN_add1, tN_sub1, gF_sF, gA_sF, gL_sF, gV_sF, gF_sA, gA_sA, gL_sA, gV_sA, gF_sB, gA_sB, gL_sB, gV_sB, gF_nA, gA_nA, gL_nA, gV_nA, gT_nA, gF_mV, gA_mV, gL_mV, gV_mV, gT_mV, gT_sB, gT_sA, gT_sF, gF_grw, gT_grw, gL_grw, gA_grw, elT, Nat.reduceEqDiff, eq_self, and_self, and_true, true_and, and_false, false_and, reduceIte, faA, qc_14_3, qc_15_2, qc_17_2, sbA] at c))
      all_goals (try first | exact rfl | exact True.intro | assumption | omega | (simp only [Int.reduceToNat, Int.toNat_natCast, tN_add, tN_add1, tN_sub1, gF_sF, gA_sF, gL_sF, gV_sF, gF_sA, gA_sA, gL_sA, gV_sA, gF_sB, gA_sB, gL_sB, gV_sB, gF_nA, gA_nA, gL_nA, gV_nA, gT_nA, gF_mV, gA_mV, gL_mV, gV_mV, gT_mV, gT_sB, gT_sA, gT_sF, gF_grw, gT_grw, gL_grw, gA_grw, elT, Nat.reduceEqDiff, eq_self, and_self, and_true, true_and, and_false, false_and, reduceIte, faA, qc_14_3, qc_15_2, qc_17_2, sbA]; omega) | (simp only [Int.reduceToNat, Int.toNat_natCast, tN_add, tN_add1, tN_sub1, gF_sF, gA_sF, gL_sF, gV_sF, gF_sA, gA_sA, gL_sA, gV_sA, gF_sB, gA_sB, gL_sB, gV_sB, gF_nA, gA_nA, gL_nA, gV_nA, gT_nA, gF_mV, gA_mV, gL_mV, gV_mV, gT_mV, gT_sB, gT_sA, gT_sF, gF_grw, gT_grw, gL_grw, gA_grw, elT, Nat.reduceEqDiff, eq_self, and_self, and_true, true_and, and_false, false_and, reduceIte, faA, qc_14_3, qc_15_2, qc_17_2, sbA]; done) | (simp only [Int.reduceToNat, Int.toNat_natCast, tN_add, tN_add1, tN_sub1, gF_sF, gA_sF, gL_sF, gV_sF, gF_sA, gA_sA, gL_sA, gV_sA, gF_sB, gA_sB, gL_sB, gV_sB, gF_nA, gA_nA, gL_nA, gV_nA, gT_nA, gF_mV, gA_mV, gL_mV, gV_mV, gT_mV, gT_sB, gT_sA, gT_sF, gF_grw, gT_grw, gL_grw, gA_grw, elT, Nat.reduceEqDiff, eq_self, and_self, and_true, true_and, and_false, false_and, reduceIte, faA, qc_14_3, qc_15_2, qc_17_2, sbA, grl]; split <;> omega) | (show 2 * gL _ _ _ ≤ gL _ _ _; simp only [Int.reduceToNat, Int.toNat_natCast, tN_add, tN_add1, tN_sub1, gF_sF, gA_sF, gL_sF, gV_sF, gF_sA, gA_sA, gL_sA, gV_sA, gF_sB, gA_sB, gL_sB, gV_sB, gF_nA, gA_nA, gL_nA, gV_nA, gT_nA, gF_mV, gA_mV, gL_mV, gV_mV, gT_mV, gT_sB, gT_sA, gT_sF, gF_grw, gT_grw, gL_grw, gA_grw, elT, Nat.reduceEqDiff, eq_self, and_self, and_true, true_and, and_false, false_and, reduceIte, faA, qc_14_3, qc_15_2, qc_17_2, sbA]; omega))
      refine c_get5 ?_ ?_ (fun x hx => ?_)
      · omega
      · have := hB.1; omega
      have hx : x = gA σ 5 1 (p + q) % 256 := hx
      rw [hB.2 q hq, hb] at hx
      subst hx
      repeat' (first | refine And.intro ?_ ?_ | (with_reducible intro c; try simp only [cmpI, cmpN, Classical.not_not, not_true_eq_false, not_false_eq_true, Int.reduceToNat, Int.toNat_natCast, tN_add, tN_add1, tN_sub1, gF_sF, gA_sF, gL_sF, gV_sF, gF_sA, gA_sA, gL_sA, gV_sA, gF_sB, gA_sB, gL_sB, gV_sB, gF_nA, gA_nA, gL_nA, gV_nA, gT_nA, gF_mV, gA_mV, gL_mV, gV_mV, gT_mV, gT_sB, gT_sA, gT_sF, gF_grw, gT_grw, gL_grw, gA_grw, elT, Nat.reduceEqDiff, eq_self, and_self, and_true, true_and, and_false, false_and, reduceIte, faA, qc_14_3, qc_15_2, qc_17_2, sbA] at c))
      all_goals (try first | exact rfl | exact True.intro | assumption | omega | (simp only [Int.reduceToNat, Int.toNat_natCast, tN_add, tN_add1, tN_sub1, gF_sF, gA_sF, gL_sF, gV_sF, gF_sA, gA_sA, gL_sA, gV_sA, gF_sB, gA_sB, gL_sB, gV_sB, gF_nA, gA_nA, gL_nA, gV_nA, gT_nA, gF_mV, gA_mV, gL_mV, gV_mV, gT_mV, gT_sB, gT_sA, gT_sF, gF_grw, gT_grw, gL_grw, gA_grw, elT, Nat.reduceEqDiff, eq_self, and_self, and_true, true_and, and_false, false_and, reduceIte, faA, qc_14_3, qc_15_2, qc_17_2, sbA]; omega) | (simp only [Int.reduceToNat, Int.toNat_natCast, tN_add, tN_add1, tN_sub1, gF_sF, gA_sF, gL_sF, gV_sF, gF_sA, gA_sA, gL_sA, gV_sA, gF_sB, gA_sB, gL_sB, gV_sB, gF_nA, gA_nA, gL_nA, gV_nA, gT_nA, gF_mV, gA_mV, gL_mV, gV_mV, gT_mV, gT_sB, gT_sA, gT_sF, gF_grw, gT_grw, gL_grw, gA_grw, elT, Nat.reduceEqDiff, eq_self, and_self, and_true, true_and, and_false, false_and, reduceIte, faA, qc_14_3, qc_15_2, qc_17_2, sbA]; done) | (simp only [Int.reduceToNat, Int.toNat_natCast, tN_add, tN_add1, tN_sub1, gF_sF, gA_sF, gL_sF, gV_sF, gF_sA, gA_sA, gL_sA, gV_sA, gF_sB, gA_sB, gL_sB, gV_sB, gF_nA, gA_nA, gL_nA, gV_nA, gT_nA, gF_mV, gA_mV, gL_mV, gV_mV, gT_mV, gT_sB, gT_sA, gT_sF, gF_grw, gT_grw, gL_grw, gA_grw, elT, Nat.reduceEqDiff, eq_self, and_self, and_true, true_and, and_false, false_and, reduceIte, faA, qc_14_3, qc_15_2, qc_17_2, sbA, grl]; split <;> omega) | (show 2 * gL _ _ _ ≤ gL _ _ _; simp only [Int.reduceToNat, Int.toNat_natCast, tN_add, tN_add1, tN_sub1, gF_sF, gA_sF, gL_sF, gV_sF, gF_sA, gA_sA, gL_sA, gV_sA, gF_sB, gA_sB, gL_sB, gV_sB, gF_nA, gA_nA, gL_nA, gV_nA, gT_nA, gF_mV, gA_mV, gL_mV, gV_mV, gT_mV, gT_sB, gT_sA, gT_sF, gF_grw, gT_grw, gL_grw, gA_grw, elT, Nat.reduceEqDiff, eq_self, and_self, and_true, true_and, and_false, false_and, reduceIte, faA, qc_14_3, qc_15_2, qc_17_2, sbA]; omega))
      exact ih (q + 1) _ hd2 hm
  refine ct_seg (il := (fun _ => false)) (mc := true) (fun _ => grow_ok) 40 [5] (by decide) (Nat.le_of_ble_eq_true rfl) ?_
  exact loop l 0 _ rfl rfl
theorem c_len {k n : Nat} {ni : Int} {NS : List (List Int)} {σ : Sg} {Q : Option AV → Sg → Prop} {E : Int → Sg → Prop} (hN : NmB σ NS) (hn : n < NS.length) (hi : ni = (n : Int)) (hQ : ∀ x, x = ((nmT NS n).length : Int) → Q (some (vI x)) σ) : Ct 1 38 k [vO 4, vI ni] σ Q E := by
  subst hi
  obtain ⟨-, -, ⟨b1, b2, -, -⟩, b5, -, -, ⟨b8, b9⟩, -⟩ := hN
  have e1 := b5 n (by omega)
  have e2 := b5 (n + 1) (by omega)
  have e3 := nmO_succ hn
  have e4 := nmO_le (NS := NS) (k := n + 1) (by omega)
  refine ct_seg (il := (fun _ => false)) (mc := true) (fun _ => grow_ok) 40 [] (by decide) (Nat.le_of_ble_eq_true rfl) ?_
  repeat' (first | refine And.intro ?_ ?_ | (with_reducible intro c; try simp only [cmpI, cmpN, Classical.not_not, not_true_eq_false, not_false_eq_true, Int.reduceToNat, Int.toNat_natCast, tN_add, tN_add1, tN_sub1, gF_sF, gA_sF, gL_sF, gV_sF, gF_sA, gA_sA, gL_sA, gV_sA, gF_sB, gA_sB, gL_sB, gV_sB, gF_nA, gA_nA, gL_nA, gV_nA, gT_nA, gF_mV, gA_mV, gL_mV, gV_mV, gT_mV, gT_sB, gT_sA, gT_sF, gF_grw, gT_grw, gL_grw, gA_grw, elT, Nat.reduceEqDiff, eq_self, and_self, and_true, true_and, and_false, false_and, reduceIte, faA, qc_14_3, qc_15_2, qc_17_2, sbA] at c))
  all_goals (try first | exact rfl | exact True.intro | assumption | omega | (simp only [Int.reduceToNat, Int.toNat_natCast, tN_add, tN_add1, tN_sub1, gF_sF, gA_sF, gL_sF, gV_sF, gF_sA, gA_sA, gL_sA, gV_sA, gF_sB, gA_sB, gL_sB, gV_sB, gF_nA, gA_nA, gL_nA, gV_nA, gT_nA, gF_mV, gA_mV, gL_mV, gV_mV, gT_mV, gT_sB, gT_sA, gT_sF, gF_grw, gT_grw, gL_grw, gA_grw, elT, Nat.reduceEqDiff, eq_self, and_self, and_true, true_and, and_false, false_and, reduceIte, faA, qc_14_3, qc_15_2, qc_17_2, sbA]; omega) | (simp only [Int.reduceToNat, Int.toNat_natCast, tN_add, tN_add1, tN_sub1, gF_sF, gA_sF, gL_sF, gV_sF, gF_sA, gA_sA, gL_sA, gV_sA, gF_sB, gA_sB, gL_sB, gV_sB, gF_nA, gA_nA, gL_nA, gV_nA, gT_nA, gF_mV, gA_mV, gL_mV, gV_mV, gT_mV, gT_sB, gT_sA, gT_sF, gF_grw, gT_grw, gL_grw, gA_grw, elT, Nat.reduceEqDiff, eq_self, and_self, and_true, true_and, and_false, false_and, reduceIte, faA, qc_14_3, qc_15_2, qc_17_2, sbA]; done) | (simp only [Int.reduceToNat, Int.toNat_natCast, tN_add, tN_add1, tN_sub1, gF_sF, gA_sF, gL_sF, gV_sF, gF_sA, gA_sA, gL_sA, gV_sA, gF_sB, gA_sB, gL_sB, gV_sB, gF_nA, gA_nA, gL_nA, gV_nA, gT_nA, gF_mV, gA_mV, gL_mV, gV_mV, gT_mV, gT_sB, gT_sA, gT_sF, gF_grw, gT_grw, gL_grw, gA_grw, elT, Nat.reduceEqDiff, eq_self, and_self, and_true, true_and, and_false, false_and, reduceIte, faA, qc_14_3, qc_15_2, qc_17_2, sbA, grl]; split <;> omega) | (show 2 * gL _ _ _ ≤ gL _ _ _; simp only [Int.reduceToNat, Int.toNat_natCast, tN_add, tN_add1, tN_sub1, gF_sF, gA_sF, gL_sF, gV_sF, gF_sA, gA_sA, gL_sA, gV_sA, gF_sB, gA_sB, gL_sB, gV_sB, gF_nA, gA_nA, gL_nA, gV_nA, gT_nA, gF_mV, gA_mV, gL_mV, gV_mV, gT_mV, gT_sB, gT_sA, gT_sF, gF_grw, gT_grw, gL_grw, gA_grw, elT, Nat.reduceEqDiff, eq_self, and_self, and_true, true_and, and_false, false_and, reduceIte, faA, qc_14_3, qc_15_2, qc_17_2, sbA]; omega))
  refine hQ _ ?_
  simp only [Int.reduceToNat, Int.toNat_natCast, tN_add, tN_add1, tN_sub1, gF_sF, gA_sF, gL_sF, gV_sF, gF_sA, gA_sA, gL_sA, gV_sA, gF_sB, gA_sB, gL_sB, gV_sB, gF_nA, gA_nA, gL_nA, gV_nA, gT_nA, gF_mV, gA_mV, gL_mV, gV_mV, gT_mV, gT_sB, gT_sA, gT_sF, gF_grw, gT_grw, gL_grw, gA_grw, elT, Nat.reduceEqDiff, eq_self, and_self, and_true, true_and, and_false, false_and, reduceIte, faA, qc_14_3, qc_15_2, qc_17_2, sbA]
  omega
theorem c_let {k n q : Nat} {ni qi : Int} {NS : List (List Int)} {σ : Sg} {Q : Option AV → Sg → Prop} {E : Int → Sg → Prop} (hk : 1 ≤ k) (hN : NmB σ NS) (hn : n < NS.length) (hq : q < (nmT NS n).length) (hi : ni = (n : Int)) (hj : qi = (q : Int)) (hQ : ∀ x, x = (nmT NS n).getD q 0 → Q (some (vI x)) σ) : Ct 1 42 k [vO 4, vI ni, vI qi] σ Q E := by
  subst hi hj
  obtain ⟨-, -, ⟨b1, b2, -, -⟩, b5, b6, -, ⟨b8, b9⟩, -⟩ := hN
  have e1 := b5 n (by omega)
  have e3 := nmO_succ hn
  have e4 := nmO_le (NS := NS) (k := n + 1) (by omega)
  refine ct_seg (il := (fun _ => false)) (mc := true) (fun _ => grow_ok) 40 [] (by decide) (Nat.le_of_ble_eq_true rfl) ?_
  repeat' (first | refine And.intro ?_ ?_ | (with_reducible intro c; try simp only [cmpI, cmpN, Classical.not_not, not_true_eq_false, not_false_eq_true, Int.reduceToNat, Int.toNat_natCast, tN_add, tN_add1, tN_sub1, gF_sF, gA_sF, gL_sF, gV_sF, gF_sA, gA_sA, gL_sA, gV_sA, gF_sB, gA_sB, gL_sB, gV_sB, gF_nA, gA_nA, gL_nA, gV_nA, gT_nA, gF_mV, gA_mV, gL_mV, gV_mV, gT_mV, gT_sB, gT_sA, gT_sF, gF_grw, gT_grw, gL_grw, gA_grw, elT, Nat.reduceEqDiff, eq_self, and_self, and_true, true_and, and_false, false_and, reduceIte, faA, qc_14_3, qc_15_2, qc_17_2, sbA] at c))
  all_goals (try first | exact rfl | exact True.intro | assumption | omega | (simp only [Int.reduceToNat, Int.toNat_natCast, tN_add, tN_add1, tN_sub1, gF_sF, gA_sF, gL_sF, gV_sF, gF_sA, gA_sA, gL_sA, gV_sA, gF_sB, gA_sB, gL_sB, gV_sB, gF_nA, gA_nA, gL_nA, gV_nA, gT_nA, gF_mV, gA_mV, gL_mV, gV_mV, gT_mV, gT_sB, gT_sA, gT_sF, gF_grw, gT_grw, gL_grw, gA_grw, elT, Nat.reduceEqDiff, eq_self, and_self, and_true, true_and, and_false, false_and, reduceIte, faA, qc_14_3, qc_15_2, qc_17_2, sbA]; omega) | (simp only [Int.reduceToNat, Int.toNat_natCast, tN_add, tN_add1, tN_sub1, gF_sF, gA_sF, gL_sF, gV_sF, gF_sA, gA_sA, gL_sA, gV_sA, gF_sB, gA_sB, gL_sB, gV_sB, gF_nA, gA_nA, gL_nA, gV_nA, gT_nA, gF_mV, gA_mV, gL_mV, gV_mV, gT_mV, gT_sB, gT_sA, gT_sF, gF_grw, gT_grw, gL_grw, gA_grw, elT, Nat.reduceEqDiff, eq_self, and_self, and_true, true_and, and_false, false_and, reduceIte, faA, qc_14_3, qc_15_2, qc_17_2, sbA]; done) | (simp only [Int.reduceToNat, Int.toNat_natCast, tN_add, tN_add1, tN_sub1, gF_sF, gA_sF, gL_sF, gV_sF, gF_sA, gA_sA, gL_sA, gV_sA, gF_sB, gA_sB, gL_sB, gV_sB, gF_nA, gA_nA, gL_nA, gV_nA, gT_nA, gF_mV, gA_mV, gL_mV, gV_mV, gT_mV, gT_sB, gT_sA, gT_sF, gF_grw, gT_grw, gL_grw, gA_grw, elT, Nat.reduceEqDiff, eq_self, and_self, and_true, true_and, and_false, false_and, reduceIte, faA, qc_14_3, qc_15_2, qc_17_2, sbA, grl]; split <;> omega) | (show 2 * gL _ _ _ ≤ gL _ _ _; simp only [Int.reduceToNat, Int.toNat_natCast, tN_add, tN_add1, tN_sub1, gF_sF, gA_sF, gL_sF, gV_sF, gF_sA, gA_sA, gL_sA, gV_sA, gF_sB, gA_sB, gL_sB, gV_sB, gF_nA, gA_nA, gL_nA, gV_nA, gT_nA, gF_mV, gA_mV, gL_mV, gV_mV, gT_mV, gT_sB, gT_sA, gT_sF, gF_grw, gT_grw, gL_grw, gA_grw, elT, Nat.reduceEqDiff, eq_self, and_self, and_true, true_and, and_false, false_and, reduceIte, faA, qc_14_3, qc_15_2, qc_17_2, sbA]; omega))
  refine c_get5 ?_ ?_ (fun x hx => ?_)
  · simp only [Int.reduceToNat, Int.toNat_natCast, tN_add, tN_add1, tN_sub1, gF_sF, gA_sF, gL_sF, gV_sF, gF_sA, gA_sA, gL_sA, gV_sA, gF_sB, gA_sB, gL_sB, gV_sB, gF_nA, gA_nA, gL_nA, gV_nA, gT_nA, gF_mV, gA_mV, gL_mV, gV_mV, gT_mV, gT_sB, gT_sA, gT_sF, gF_grw, gT_grw, gL_grw, gA_grw, elT, Nat.reduceEqDiff, eq_self, and_self, and_true, true_and, and_false, false_and, reduceIte, faA, qc_14_3, qc_15_2, qc_17_2, sbA]; omega
  · simp only [Int.reduceToNat, Int.toNat_natCast, tN_add, tN_add1, tN_sub1, gF_sF, gA_sF, gL_sF, gV_sF, gF_sA, gA_sA, gL_sA, gV_sA, gF_sB, gA_sB, gL_sB, gV_sB, gF_nA, gA_nA, gL_nA, gV_nA, gT_nA, gF_mV, gA_mV, gL_mV, gV_mV, gT_mV, gT_sB, gT_sA, gT_sF, gF_grw, gT_grw, gL_grw, gA_grw, elT, Nat.reduceEqDiff, eq_self, and_self, and_true, true_and, and_false, false_and, reduceIte, faA, qc_14_3, qc_15_2, qc_17_2, sbA]; omega
  · refine hQ _ ?_
    rw [hx, ← (b6 n hn).2 q hq]
    simp only [Int.reduceToNat, Int.toNat_natCast, tN_add, tN_add1, tN_sub1, gF_sF, gA_sF, gL_sF, gV_sF, gF_sA, gA_sA, gL_sA, gV_sA, gF_sB, gA_sB, gL_sB, gV_sB, gF_nA, gA_nA, gL_nA, gV_nA, gT_nA, gF_mV, gA_mV, gL_mV, gV_mV, gT_mV, gT_sB, gT_sA, gT_sF, gF_grw, gT_grw, gL_grw, gA_grw, elT, Nat.reduceEqDiff, eq_self, and_self, and_true, true_and, and_false, false_and, reduceIte, faA, qc_14_3, qc_15_2, qc_17_2, sbA]
    rw [e1, tN_add]
theorem c_is2 {k n p : Nat} {ni ai li : Int} {l : List Int} {NS : List (List Int)} {σ : Sg} {Q : Option AV → Sg → Prop} {E : Int → Sg → Prop} (hk : 2 ≤ k) (hN : NmB σ NS) (hn : n < NS.length) (hB : Bt σ 2 p l) (hs : p + l.length ≤ 100000) (hi : ni = (n : Int)) (ha : ai = (p : Int)) (hl : li = (l.length : Int)) (hQ : ∀ x, x = (if nmT NS n = l then (1 : Int) else 0) → Q (some (vI x)) σ) : Ct 1 41 k [vO 4, vI ni, vO 2, vI ai, vI li] σ Q E := by
  subst hi ha hl
  have loop : ∀ (m q : Nat) (s : Int), l.length - q < m → ((s = 1 ∧ (nmT NS n).length = l.length ∧ ∀ qₚ, qₚ < q → (nmT NS n).getD qₚ 0 = l.getD qₚ 0) ∨ (s = 0 ∧ nmT NS n ≠ l)) → Jx (mdT 41 [vO 4, vI (n : Int), vO 2, vI (p : Int), vI (l.length : Int)]) 1 41 k [vO 4, vI (n : Int), vO 2, vI (p : Int), vI (l.length : Int)] σ Q E 20 [some (vO 4), some (vI (n : Int)), some (vO 2), some (vI (p : Int)), some (vI (l.length : Int)), some (vI s), some (vI (q : Int))] [] σ := by
    intro m
    induction m with
    | zero => intro q s h; omega
    | succ m ih =>
      intro q s hm hc
      have hend : (l.length ≤ q ∨ s = 0) → s = (if nmT NS n = l then (1 : Int) else 0) := fun h => by
        rcases hc with ⟨rfl, h1, h2⟩ | ⟨rfl, h1⟩
        · rw [if_pos]
          exact ext_getD h1 (fun qₚ hqₚ => h2 qₚ (by omega))
        · rw [if_neg h1]
      refine jx_seg (il := (fun _ => false)) (mc := true) (fun _ => grow_ok) 60 [20] (by decide) rfl ?_
      repeat' (first | refine And.intro ?_ ?_ | (with_reducible intro c; try simp only [cmpI, cmpN, Classical.not_not, not_true_eq_false, not_false_eq_true, Int.reduceToNat, Int.toNat_natCast, tN_add, tN_add1, tN_sub1, gF_sF, gA_sF, gL_sF, gV_sF, gF_sA, gA_sA, gL_sA, gV_sA, gF_sB, gA_sB, gL_sB, gV_sB, gF_nA, gA_nA, gL_nA, gV_nA, gT_nA, gF_mV, gA_mV, gL_mV, gV_mV, gT_mV, gT_sB, gT_sA, gT_sF, gF_grw, gT_grw, gL_grw, gA_grw, elT, Nat.reduceEqDiff, eq_self, and_self, and_true, true_and, and_false, false_and, reduceIte, faA, qc_14_3, qc_15_2, qc_17_2, sbA] at c))
      all_goals (try first | exact rfl | exact True.intro | assumption | omega | (simp only [Int.reduceToNat, Int.toNat_natCast, tN_add, tN_add1, tN_sub1, gF_sF, gA_sF, gL_sF, gV_sF, gF_sA, gA_sA, gL_sA, gV_sA, gF_sB, gA_sB, gL_sB, gV_sB, gF_nA, gA_nA, gL_nA, gV_nA, gT_nA, gF_mV, gA_mV, gL_mV, gV_mV, gT_mV, gT_sB, gT_sA, gT_sF, gF_grw, gT_grw, gL_grw, gA_grw, elT, Nat.reduceEqDiff, eq_self, and_self, and_true, true_and, and_false, false_and, reduceIte, faA, qc_14_3, qc_15_2, qc_17_2, sbA]; omega) | (simp only [Int.reduceToNat, Int.toNat_natCast, tN_add, tN_add1, tN_sub1, gF_sF, gA_sF, gL_sF, gV_sF, gF_sA, gA_sA, gL_sA, gV_sA, gF_sB, gA_sB, gL_sB, gV_sB, gF_nA, gA_nA, gL_nA, gV_nA, gT_nA, gF_mV, gA_mV, gL_mV, gV_mV, gT_mV, gT_sB, gT_sA, gT_sF, gF_grw, gT_grw, gL_grw, gA_grw, elT, Nat.reduceEqDiff, eq_self, and_self, and_true, true_and, and_false, false_and, reduceIte, faA, qc_14_3, qc_15_2, qc_17_2, sbA]; done) | (simp only [Int.reduceToNat, Int.toNat_natCast, tN_add, tN_add1, tN_sub1, gF_sF, gA_sF, gL_sF, gV_sF, gF_sA, gA_sA, gL_sA, gV_sA, gF_sB, gA_sB, gL_sB, gV_sB, gF_nA, gA_nA, gL_nA, gV_nA, gT_nA, gF_mV, gA_mV, gL_mV, gV_mV, gT_mV, gT_sB, gT_sA, gT_sF, gF_grw, gT_grw, gL_grw, gA_grw, elT, Nat.reduceEqDiff, eq_self, and_self, and_true, true_and, and_false, false_and, reduceIte, faA, qc_14_3, qc_15_2, qc_17_2, sbA, grl]; split <;> omega) | (show 2 * gL _ _ _ ≤ gL _ _ _; simp only [Int.reduceToNat, Int.toNat_natCast, tN_add, tN_add1, tN_sub1, gF_sF, gA_sF, gL_sF, gV_sF, gF_sA, gA_sA, gL_sA, gV_sA, gF_sB, gA_sB, gL_sB, gV_sB, gF_nA, gA_nA, gL_nA, gV_nA, gT_nA, gF_mV, gA_mV, gL_mV, gV_mV, gT_mV, gT_sB, gT_sA, gT_sF, gF_grw, gT_grw, gL_grw, gA_grw, elT, Nat.reduceEqDiff, eq_self, and_self, and_true, true_and, and_false, false_and, reduceIte, faA, qc_14_3, qc_15_2, qc_17_2, sbA]; omega))
      · exact hQ _ (hend (by omega))
      · exact hQ _ (hend (by omega))
      · obtain ⟨rfl, h1, h2⟩ : s = 1 ∧ (nmT NS n).length = l.length ∧ ∀ qₚ, qₚ < q → (nmT NS n).getD qₚ 0 = l.getD qₚ 0 := by
          rcases hc with h | ⟨h, -⟩
          · exact h
          · omega
        refine c_let (n := n) (q := q) ?_ hN hn ?_ rfl rfl (fun x hx => ?_)
        all_goals (try first | exact rfl | exact True.intro | assumption | omega | (simp only [Int.reduceToNat, Int.toNat_natCast, tN_add, tN_add1, tN_sub1, gF_sF, gA_sF, gL_sF, gV_sF, gF_sA, gA_sA, gL_sA, gV_sA, gF_sB, gA_sB, gL_sB, gV_sB, gF_nA, gA_nA, gL_nA, gV_nA, gT_nA, gF_mV, gA_mV, gL_mV, gV_mV, gT_mV, gT_sB, gT_sA, gT_sF, gF_grw, gT_grw, gL_grw, gA_grw, elT, Nat.reduceEqDiff, eq_self, and_self, and_true, true_and, and_false, false_and, reduceIte, faA, qc_14_3, qc_15_2, qc_17_2, sbA]; omega) | (simp only [Int.reduceToNat, Int.toNat_natCast, tN_add, tN_add1, tN_sub1, gF_sF, gA_sF, gL_sF, gV_sF, gF_sA, gA_sA, gL_sA, gV_sA, gF_sB, gA_sB, gL_sB, gV_sB, gF_nA, gA_nA, gL_nA, gV_nA, gT_nA, gF_mV, gA_mV, gL_mV, gV_mV, gT_mV, gT_sB, gT_sA, gT_sF, gF_grw, gT_grw, gL_grw, gA_grw, elT, Nat.reduceEqDiff, eq_self, and_self, and_true, true_and, and_false, false_and, reduceIte, faA, qc_14_3, qc_15_2, qc_17_2, sbA]; done) | (simp only [Int.reduceToNat, Int.toNat_natCast, tN_add, tN_add1, tN_sub1, gF_sF, gA_sF, gL_sF, gV_sF, gF_sA, gA_sA, gL_sA, gV_sA, gF_sB, gA_sB, gL_sB, gV_sB, gF_nA, gA_nA, gL_nA, gV_nA, gT_nA, gF_mV, gA_mV, gL_mV, gV_mV, gT_mV, gT_sB, gT_sA, gT_sF, gF_grw, gT_grw, gL_grw, gA_grw, elT, Nat.reduceEqDiff, eq_self, and_self, and_true, true_and, and_false, false_and, reduceIte, faA, qc_14_3, qc_15_2, qc_17_2, sbA, grl]; split <;> omega) | (show 2 * gL _ _ _ ≤ gL _ _ _; simp only [Int.reduceToNat, Int.toNat_natCast, tN_add, tN_add1, tN_sub1, gF_sF, gA_sF, gL_sF, gV_sF, gF_sA, gA_sA, gL_sA, gV_sA, gF_sB, gA_sB, gL_sB, gV_sB, gF_nA, gA_nA, gL_nA, gV_nA, gT_nA, gF_mV, gA_mV, gL_mV, gV_mV, gT_mV, gT_sB, gT_sA, gT_sF, gF_grw, gT_grw, gL_grw, gA_grw, elT, Nat.reduceEqDiff, eq_self, and_self, and_true, true_and, and_false, false_and, reduceIte, faA, qc_14_3, qc_15_2, qc_17_2, sbA]; omega))
        repeat' (first | refine And.intro ?_ ?_ | (with_reducible intro c; try simp only [cmpI, cmpN, Classical.not_not, not_true_eq_false, not_false_eq_true, Int.reduceToNat, Int.toNat_natCast, tN_add, tN_add1, tN_sub1, gF_sF, gA_sF, gL_sF, gV_sF, gF_sA, gA_sA, gL_sA, gV_sA, gF_sB, gA_sB, gL_sB, gV_sB, gF_nA, gA_nA, gL_nA, gV_nA, gT_nA, gF_mV, gA_mV, gL_mV, gV_mV, gT_mV, gT_sB, gT_sA, gT_sF, gF_grw, gT_grw, gL_grw, gA_grw, elT, Nat.reduceEqDiff, eq_self, and_self, and_true, true_and, and_false, false_and, reduceIte, faA, qc_14_3, qc_15_2, qc_17_2, sbA] at c))
        all_goals (try first | exact rfl | exact True.intro | assumption | omega | (simp only [Int.reduceToNat, Int.toNat_natCast, tN_add, tN_add1, tN_sub1, gF_sF, gA_sF, gL_sF, gV_sF, gF_sA, gA_sA, gL_sA, gV_sA, gF_sB, gA_sB, gL_sB, gV_sB, gF_nA, gA_nA, gL_nA, gV_nA, gT_nA, gF_mV, gA_mV, gL_mV, gV_mV, gT_mV, gT_sB, gT_sA, gT_sF, gF_grw, gT_grw, gL_grw, gA_grw, elT, Nat.reduceEqDiff, eq_self, and_self, and_true, true_and, and_false, false_and, reduceIte, faA, qc_14_3, qc_15_2, qc_17_2, sbA]; omega) | (simp only [Int.reduceToNat, Int.toNat_natCast, tN_add, tN_add1, tN_sub1, gF_sF, gA_sF, gL_sF, gV_sF, gF_sA, gA_sA, gL_sA, gV_sA, gF_sB, gA_sB, gL_sB, gV_sB, gF_nA, gA_nA, gL_nA, gV_nA, gT_nA, gF_mV, gA_mV, gL_mV, gV_mV, gT_mV, gT_sB, gT_sA, gT_sF, gF_grw, gT_grw, gL_grw, gA_grw, elT, Nat.reduceEqDiff, eq_self, and_self, and_true, true_and, and_false, false_and, reduceIte, faA, qc_14_3, qc_15_2, qc_17_2, sbA]; done) | (simp only [Int.reduceToNat, Int.toNat_natCast, tN_add, tN_add1, tN_sub1, gF_sF, gA_sF, gL_sF, gV_sF, gF_sA, gA_sA, gL_sA, gV_sA, gF_sB, gA_sB, gL_sB, gV_sB, gF_nA, gA_nA, gL_nA, gV_nA, gT_nA, gF_mV, gA_mV, gL_mV, gV_mV, gT_mV, gT_sB, gT_sA, gT_sF, gF_grw, gT_grw, gL_grw, gA_grw, elT, Nat.reduceEqDiff, eq_self, and_self, and_true, true_and, and_false, false_and, reduceIte, faA, qc_14_3, qc_15_2, qc_17_2, sbA, grl]; split <;> omega) | (show 2 * gL _ _ _ ≤ gL _ _ _; simp only [Int.reduceToNat, Int.toNat_natCast, tN_add, tN_add1, tN_sub1, gF_sF, gA_sF, gL_sF, gV_sF, gF_sA, gA_sA, gL_sA, gV_sA, gF_sB, gA_sB, gL_sB, gV_sB, gF_nA, gA_nA, gL_nA, gV_nA, gT_nA, gF_mV, gA_mV, gL_mV, gV_mV, gT_mV, gT_sB, gT_sA, gT_sF, gF_grw, gT_grw, gL_grw, gA_grw, elT, Nat.reduceEqDiff, eq_self, and_self, and_true, true_and, and_false, false_and, reduceIte, faA, qc_14_3, qc_15_2, qc_17_2, sbA]; omega))
        refine c_get2 ?_ ?_ (fun y hy => ?_)
        all_goals (try first | exact rfl | exact True.intro | assumption | omega | (simp only [Int.reduceToNat, Int.toNat_natCast, tN_add, tN_add1, tN_sub1, gF_sF, gA_sF, gL_sF, gV_sF, gF_sA, gA_sA, gL_sA, gV_sA, gF_sB, gA_sB, gL_sB, gV_sB, gF_nA, gA_nA, gL_nA, gV_nA, gT_nA, gF_mV, gA_mV, gL_mV, gV_mV, gT_mV, gT_sB, gT_sA, gT_sF, gF_grw, gT_grw, gL_grw, gA_grw, elT, Nat.reduceEqDiff, eq_self, and_self, and_true, true_and, and_false, false_and, reduceIte, faA, qc_14_3, qc_15_2, qc_17_2, sbA]; omega) | (simp only [Int.reduceToNat, Int.toNat_natCast, tN_add, tN_add1, tN_sub1, gF_sF, gA_sF, gL_sF, gV_sF, gF_sA, gA_sA, gL_sA, gV_sA, gF_sB, gA_sB, gL_sB, gV_sB, gF_nA, gA_nA, gL_nA, gV_nA, gT_nA, gF_mV, gA_mV, gL_mV, gV_mV, gT_mV, gT_sB, gT_sA, gT_sF, gF_grw, gT_grw, gL_grw, gA_grw, elT, Nat.reduceEqDiff, eq_self, and_self, and_true, true_and, and_false, false_and, reduceIte, faA, qc_14_3, qc_15_2, qc_17_2, sbA]; done) | (simp only [Int.reduceToNat, Int.toNat_natCast, tN_add, tN_add1, tN_sub1, gF_sF, gA_sF, gL_sF, gV_sF, gF_sA, gA_sA, gL_sA, gV_sA, gF_sB, gA_sB, gL_sB, gV_sB, gF_nA, gA_nA, gL_nA, gV_nA, gT_nA, gF_mV, gA_mV, gL_mV, gV_mV, gT_mV, gT_sB, gT_sA, gT_sF, gF_grw, gT_grw, gL_grw, gA_grw, elT, Nat.reduceEqDiff, eq_self, and_self, and_true, true_and, and_false, false_and, reduceIte, faA, qc_14_3, qc_15_2, qc_17_2, sbA, grl]; split <;> omega) | (show 2 * gL _ _ _ ≤ gL _ _ _; simp only [Int.reduceToNat, Int.toNat_natCast, tN_add, tN_add1, tN_sub1, gF_sF, gA_sF, gL_sF, gV_sF, gF_sA, gA_sA, gL_sA, gV_sA, gF_sB, gA_sB, gL_sB, gV_sB, gF_nA, gA_nA, gL_nA, gV_nA, gT_nA, gF_mV, gA_mV, gL_mV, gV_mV, gT_mV, gT_sB, gT_sA, gT_sF, gF_grw, gT_grw, gL_grw, gA_grw, elT, Nat.reduceEqDiff, eq_self, and_self, and_true, true_and, and_false, false_and, reduceIte, faA, qc_14_3, qc_15_2, qc_17_2, sbA]; omega))
        · have := hB.1; omega
        have hy2 : y = l.getD q 0 := by
          rw [hy, ← hB.2 q (by omega)]
          simp only [Int.reduceToNat, Int.toNat_natCast, tN_add, tN_add1, tN_sub1, gF_sF, gA_sF, gL_sF, gV_sF, gF_sA, gA_sA, gL_sA, gV_sA, gF_sB, gA_sB, gL_sB, gV_sB, gF_nA, gA_nA, gL_nA, gV_nA, gT_nA, gF_mV, gA_mV, gL_mV, gV_mV, gT_mV, gT_sB, gT_sA, gT_sF, gF_grw, gT_grw, gL_grw, gA_grw, elT, Nat.reduceEqDiff, eq_self, and_self, and_true, true_and, and_false, false_and, reduceIte, faA, qc_14_3, qc_15_2, qc_17_2, sbA]
        repeat' (first | refine And.intro ?_ ?_ | (with_reducible intro c; try simp only [cmpI, cmpN, Classical.not_not, not_true_eq_false, not_false_eq_true, Int.reduceToNat, Int.toNat_natCast, tN_add, tN_add1, tN_sub1, gF_sF, gA_sF, gL_sF, gV_sF, gF_sA, gA_sA, gL_sA, gV_sA, gF_sB, gA_sB, gL_sB, gV_sB, gF_nA, gA_nA, gL_nA, gV_nA, gT_nA, gF_mV, gA_mV, gL_mV, gV_mV, gT_mV, gT_sB, gT_sA, gT_sF, gF_grw, gT_grw, gL_grw, gA_grw, elT, Nat.reduceEqDiff, eq_self, and_self, and_true, true_and, and_false, false_and, reduceIte, faA, qc_14_3, qc_15_2, qc_17_2, sbA] at c))
        all_goals (try first | exact rfl | exact True.intro | assumption | omega | (simp only [Int.reduceToNat, Int.toNat_natCast, tN_add, tN_add1, tN_sub1, gF_sF, gA_sF, gL_sF, gV_sF, gF_sA, gA_sA, gL_sA, gV_sA, gF_sB, gA_sB, gL_sB, gV_sB, gF_nA, gA_nA, gL_nA, gV_nA, gT_nA, gF_mV, gA_mV, gL_mV, gV_mV, gT_mV, gT_sB, gT_sA, gT_sF, gF_grw, gT_grw, gL_grw, gA_grw, elT, Nat.reduceEqDiff, eq_self, and_self, and_true, true_and, and_false, false_and, reduceIte, faA, qc_14_3, qc_15_2, qc_17_2, sbA]; omega) | (simp only [Int.reduceToNat, Int.toNat_natCast, tN_add, tN_add1, tN_sub1, gF_sF, gA_sF, gL_sF, gV_sF, gF_sA, gA_sA, gL_sA, gV_sA, gF_sB, gA_sB, gL_sB, gV_sB, gF_nA, gA_nA, gL_nA, gV_nA, gT_nA, gF_mV, gA_mV, gL_mV, gV_mV, gT_mV, gT_sB, gT_sA, gT_sF, gF_grw, gT_grw, gL_grw, gA_grw, elT, Nat.reduceEqDiff, eq_self, and_self, and_true, true_and, and_false, false_and, reduceIte, faA, qc_14_3, qc_15_2, qc_17_2, sbA]; done) | (simp only [Int.reduceToNat, Int.toNat_natCast, tN_add, tN_add1, tN_sub1, gF_sF, gA_sF, gL_sF, gV_sF, gF_sA, gA_sA, gL_sA, gV_sA, gF_sB, gA_sB, gL_sB, gV_sB, gF_nA, gA_nA, gL_nA, gV_nA, gT_nA, gF_mV, gA_mV, gL_mV, gV_mV, gT_mV, gT_sB, gT_sA, gT_sF, gF_grw, gT_grw, gL_grw, gA_grw, elT, Nat.reduceEqDiff, eq_self, and_self, and_true, true_and, and_false, false_and, reduceIte, faA, qc_14_3, qc_15_2, qc_17_2, sbA, grl]; split <;> omega) | (show 2 * gL _ _ _ ≤ gL _ _ _; simp only [Int.reduceToNat, Int.toNat_natCast, tN_add, tN_add1, tN_sub1, gF_sF, gA_sF, gL_sF, gV_sF, gF_sA, gA_sA, gL_sA, gV_sA, gF_sB, gA_sB, gL_sB, gV_sB, gF_nA, gA_nA, gL_nA, gV_nA, gT_nA, gF_mV, gA_mV, gL_mV, gV_mV, gT_mV, gT_sB, gT_sA, gT_sF, gF_grw, gT_grw, gL_grw, gA_grw, elT, Nat.reduceEqDiff, eq_self, and_self, and_true, true_and, and_false, false_and, reduceIte, faA, qc_14_3, qc_15_2, qc_17_2, sbA]; omega))
        · refine ih (q + 1) 0 (by omega) (Or.inr ⟨rfl, fun e => ?_⟩)
          rw [e] at hx
          omega
        · refine ih (q + 1) 1 (by omega) (Or.inl ⟨rfl, h1, fun qₚ hqₚ => ?_⟩)
          by_cases hh : qₚ = q
          · rw [hh]; omega
          · exact h2 qₚ (by omega)
  refine ct_seg (il := (fun _ => false)) (mc := true) (fun _ => grow_ok) 40 [20] (by decide) (Nat.le_of_ble_eq_true rfl) ?_
  repeat' (first | refine And.intro ?_ ?_ | (with_reducible intro c; try simp only [cmpI, cmpN, Classical.not_not, not_true_eq_false, not_false_eq_true, Int.reduceToNat, Int.toNat_natCast, tN_add, tN_add1, tN_sub1, gF_sF, gA_sF, gL_sF, gV_sF, gF_sA, gA_sA, gL_sA, gV_sA, gF_sB, gA_sB, gL_sB, gV_sB, gF_nA, gA_nA, gL_nA, gV_nA, gT_nA, gF_mV, gA_mV, gL_mV, gV_mV, gT_mV, gT_sB, gT_sA, gT_sF, gF_grw, gT_grw, gL_grw, gA_grw, elT, Nat.reduceEqDiff, eq_self, and_self, and_true, true_and, and_false, false_and, reduceIte, faA, qc_14_3, qc_15_2, qc_17_2, sbA] at c))
  all_goals (try first | exact rfl | exact True.intro | assumption | omega | (simp only [Int.reduceToNat, Int.toNat_natCast, tN_add, tN_add1, tN_sub1, gF_sF, gA_sF, gL_sF, gV_sF, gF_sA, gA_sA, gL_sA, gV_sA, gF_sB, gA_sB, gL_sB, gV_sB, gF_nA, gA_nA, gL_nA, gV_nA, gT_nA, gF_mV, gA_mV, gL_mV, gV_mV, gT_mV, gT_sB, gT_sA, gT_sF, gF_grw, gT_grw, gL_grw, gA_grw, elT, Nat.reduceEqDiff, eq_self, and_self, and_true, true_and, and_false, false_and, reduceIte, faA, qc_14_3, qc_15_2, qc_17_2, sbA]; omega) | (simp only [Int.reduceToNat, Int.toNat_natCast, tN_add, tN_add1, tN_sub1, gF_sF, gA_sF, gL_sF, gV_sF, gF_sA, gA_sA, gL_sA, gV_sA, gF_sB, gA_sB, gL_sB, gV_sB, gF_nA, gA_nA, gL_nA, gV_nA, gT_nA, gF_mV, gA_mV, gL_mV, gV_mV, gT_mV, gT_sB, gT_sA, gT_sF, gF_grw, gT_grw, gL_grw, gA_grw, elT, Nat.reduceEqDiff, eq_self, and_self, and_true, true_and, and_false, false_and, reduceIte, faA, qc_14_3, qc_15_2, qc_17_2, sbA]; done) | (simp only [Int.reduceToNat, Int.toNat_natCast, tN_add, tN_add1, tN_sub1, gF_sF, gA_sF, gL_sF, gV_sF, gF_sA, gA_sA, gL_sA, gV_sA, gF_sB, gA_sB, gL_sB, gV_sB, gF_nA, gA_nA, gL_nA, gV_nA, gT_nA, gF_mV, gA_mV, gL_mV, gV_mV, gT_mV, gT_sB, gT_sA, gT_sF, gF_grw, gT_grw, gL_grw, gA_grw, elT, Nat.reduceEqDiff, eq_self, and_self, and_true, true_and, and_false, false_and, reduceIte, faA, qc_14_3, qc_15_2, qc_17_2, sbA, grl]; split <;> omega) | (show 2 * gL _ _ _ ≤ gL _ _ _; simp only [Int.reduceToNat, Int.toNat_natCast, tN_add, tN_add1, tN_sub1, gF_sF, gA_sF, gL_sF, gV_sF, gF_sA, gA_sA, gL_sA, gV_sA, gF_sB, gA_sB, gL_sB, gV_sB, gF_nA, gA_nA, gL_nA, gV_nA, gT_nA, gF_mV, gA_mV, gL_mV, gV_mV, gT_mV, gT_sB, gT_sA, gT_sF, gF_grw, gT_grw, gL_grw, gA_grw, elT, Nat.reduceEqDiff, eq_self, and_self, and_true, true_and, and_false, false_and, reduceIte, faA, qc_14_3, qc_15_2, qc_17_2, sbA]; omega))
  refine c_len (n := n) hN hn rfl (fun x hx => ?_)
  repeat' (first | refine And.intro ?_ ?_ | (with_reducible intro c; try simp only [cmpI, cmpN, Classical.not_not, not_true_eq_false, not_false_eq_true, Int.reduceToNat, Int.toNat_natCast, tN_add, tN_add1, tN_sub1, gF_sF, gA_sF, gL_sF, gV_sF, gF_sA, gA_sA, gL_sA, gV_sA, gF_sB, gA_sB, gL_sB, gV_sB, gF_nA, gA_nA, gL_nA, gV_nA, gT_nA, gF_mV, gA_mV, gL_mV, gV_mV, gT_mV, gT_sB, gT_sA, gT_sF, gF_grw, gT_grw, gL_grw, gA_grw, elT, Nat.reduceEqDiff, eq_self, and_self, and_true, true_and, and_false, false_and, reduceIte, faA, qc_14_3, qc_15_2, qc_17_2, sbA] at c))
  all_goals (try first | exact rfl | exact True.intro | assumption | omega | (simp only [Int.reduceToNat, Int.toNat_natCast, tN_add, tN_add1, tN_sub1, gF_sF, gA_sF, gL_sF, gV_sF, gF_sA, gA_sA, gL_sA, gV_sA, gF_sB, gA_sB, gL_sB, gV_sB, gF_nA, gA_nA, gL_nA, gV_nA, gT_nA, gF_mV, gA_mV, gL_mV, gV_mV, gT_mV, gT_sB, gT_sA, gT_sF, gF_grw, gT_grw, gL_grw, gA_grw, elT, Nat.reduceEqDiff, eq_self, and_self, and_true, true_and, and_false, false_and, reduceIte, faA, qc_14_3, qc_15_2, qc_17_2, sbA]; omega) | (simp only [Int.reduceToNat, Int.toNat_natCast, tN_add, tN_add1, tN_sub1, gF_sF, gA_sF, gL_sF, gV_sF, gF_sA, gA_sA, gL_sA, gV_sA, gF_sB, gA_sB, gL_sB, gV_sB, gF_nA, gA_nA, gL_nA, gV_nA, gT_nA, gF_mV, gA_mV, gL_mV, gV_mV, gT_mV, gT_sB, gT_sA, gT_sF, gF_grw, gT_grw, gL_grw, gA_grw, elT, Nat.reduceEqDiff, eq_self, and_self, and_true, true_and, and_false, false_and, reduceIte, faA, qc_14_3, qc_15_2, qc_17_2, sbA]; done) | (simp only [Int.reduceToNat, Int.toNat_natCast, tN_add, tN_add1, tN_sub1, gF_sF, gA_sF, gL_sF, gV_sF, gF_sA, gA_sA, gL_sA, gV_sA, gF_sB, gA_sB, gL_sB, gV_sB, gF_nA, gA_nA, gL_nA, gV_nA, gT_nA, gF_mV, gA_mV, gL_mV, gV_mV, gT_mV, gT_sB, gT_sA, gT_sF, gF_grw, gT_grw, gL_grw, gA_grw, elT, Nat.reduceEqDiff, eq_self, and_self, and_true, true_and, and_false, false_and, reduceIte, faA, qc_14_3, qc_15_2, qc_17_2, sbA, grl]; split <;> omega) | (show 2 * gL _ _ _ ≤ gL _ _ _; simp only [Int.reduceToNat, Int.toNat_natCast, tN_add, tN_add1, tN_sub1, gF_sF, gA_sF, gL_sF, gV_sF, gF_sA, gA_sA, gL_sA, gV_sA, gF_sB, gA_sB, gL_sB, gV_sB, gF_nA, gA_nA, gL_nA, gV_nA, gT_nA, gF_mV, gA_mV, gL_mV, gV_mV, gT_mV, gT_sB, gT_sA, gT_sF, gF_grw, gT_grw, gL_grw, gA_grw, elT, Nat.reduceEqDiff, eq_self, and_self, and_true, true_and, and_false, false_and, reduceIte, faA, qc_14_3, qc_15_2, qc_17_2, sbA]; omega))
  · refine loop (l.length + 1) 0 0 (by omega) (Or.inr ⟨rfl, fun e => ?_⟩)
    rw [e] at hx
    omega
  · exact loop (l.length + 1) 0 1 (by omega) (Or.inl ⟨rfl, by omega, fun qₚ h => absurd h (by omega)⟩)
theorem c_is5 {k n p : Nat} {ni ai li : Int} {l : List Int} {NS : List (List Int)} {σ : Sg} {Q : Option AV → Sg → Prop} {E : Int → Sg → Prop} (hk : 2 ≤ k) (hN : NmB σ NS) (hn : n < NS.length) (hB : Bt σ 5 p l) (hs : p + l.length ≤ 100000) (hi : ni = (n : Int)) (ha : ai = (p : Int)) (hl : li = (l.length : Int)) (hQ : ∀ x, x = (if nmT NS n = l then (1 : Int) else 0) → Q (some (vI x)) σ) : Ct 1 41 k [vO 4, vI ni, vO 5, vI ai, vI li] σ Q E := by
  subst hi ha hl
  have loop : ∀ (m q : Nat) (s : Int), l.length - q < m → ((s = 1 ∧ (nmT NS n).length = l.length ∧ ∀ qₚ, qₚ < q → (nmT NS n).getD qₚ 0 = l.getD qₚ 0) ∨ (s = 0 ∧ nmT NS n ≠ l)) → Jx (mdT 41 [vO 4, vI (n : Int), vO 5, vI (p : Int), vI (l.length : Int)]) 1 41 k [vO 4, vI (n : Int), vO 5, vI (p : Int), vI (l.length : Int)] σ Q E 20 [some (vO 4), some (vI (n : Int)), some (vO 5), some (vI (p : Int)), some (vI (l.length : Int)), some (vI s), some (vI (q : Int))] [] σ := by
    intro m
    induction m with
    | zero => intro q s h; omega
    | succ m ih =>
      intro q s hm hc
      have hend : (l.length ≤ q ∨ s = 0) → s = (if nmT NS n = l then (1 : Int) else 0) := fun h => by
        rcases hc with ⟨rfl, h1, h2⟩ | ⟨rfl, h1⟩
        · rw [if_pos]
          exact ext_getD h1 (fun qₚ hqₚ => h2 qₚ (by omega))
        · rw [if_neg h1]
      refine jx_seg (il := (fun _ => false)) (mc := true) (fun _ => grow_ok) 60 [20] (by decide) rfl ?_
      repeat' (first | refine And.intro ?_ ?_ | (with_reducible intro c; try simp only [cmpI, cmpN, Classical.not_not, not_true_eq_false, not_false_eq_true, Int.reduceToNat, Int.toNat_natCast, tN_add, tN_add1, tN_sub1, gF_sF, gA_sF, gL_sF, gV_sF, gF_sA, gA_sA, gL_sA, gV_sA, gF_sB, gA_sB, gL_sB, gV_sB, gF_nA, gA_nA, gL_nA, gV_nA, gT_nA, gF_mV, gA_mV, gL_mV, gV_mV, gT_mV, gT_sB, gT_sA, gT_sF, gF_grw, gT_grw, gL_grw, gA_grw, elT, Nat.reduceEqDiff, eq_self, and_self, and_true, true_and, and_false, false_and, reduceIte, faA, qc_14_3, qc_15_2, qc_17_2, sbA] at c))
      all_goals (try first | exact rfl | exact True.intro | assumption | omega | (simp only [Int.reduceToNat, Int.toNat_natCast, tN_add, tN_add1, tN_sub1, gF_sF, gA_sF, gL_sF, gV_sF, gF_sA, gA_sA, gL_sA, gV_sA, gF_sB, gA_sB, gL_sB, gV_sB, gF_nA, gA_nA, gL_nA, gV_nA, gT_nA, gF_mV, gA_mV, gL_mV, gV_mV, gT_mV, gT_sB, gT_sA, gT_sF, gF_grw, gT_grw, gL_grw, gA_grw, elT, Nat.reduceEqDiff, eq_self, and_self, and_true, true_and, and_false, false_and, reduceIte, faA, qc_14_3, qc_15_2, qc_17_2, sbA]; omega) | (simp only [Int.reduceToNat, Int.toNat_natCast, tN_add, tN_add1, tN_sub1, gF_sF, gA_sF, gL_sF, gV_sF, gF_sA, gA_sA, gL_sA, gV_sA, gF_sB, gA_sB, gL_sB, gV_sB, gF_nA, gA_nA, gL_nA, gV_nA, gT_nA, gF_mV, gA_mV, gL_mV, gV_mV, gT_mV, gT_sB, gT_sA, gT_sF, gF_grw, gT_grw, gL_grw, gA_grw, elT, Nat.reduceEqDiff, eq_self, and_self, and_true, true_and, and_false, false_and, reduceIte, faA, qc_14_3, qc_15_2, qc_17_2, sbA]; done) | (simp only [Int.reduceToNat, Int.toNat_natCast, tN_add, tN_add1, tN_sub1, gF_sF, gA_sF, gL_sF, gV_sF, gF_sA, gA_sA, gL_sA, gV_sA, gF_sB, gA_sB, gL_sB, gV_sB, gF_nA, gA_nA, gL_nA, gV_nA, gT_nA, gF_mV, gA_mV, gL_mV, gV_mV, gT_mV, gT_sB, gT_sA, gT_sF, gF_grw, gT_grw, gL_grw, gA_grw, elT, Nat.reduceEqDiff, eq_self, and_self, and_true, true_and, and_false, false_and, reduceIte, faA, qc_14_3, qc_15_2, qc_17_2, sbA, grl]; split <;> omega) | (show 2 * gL _ _ _ ≤ gL _ _ _; simp only [Int.reduceToNat, Int.toNat_natCast, tN_add, tN_add1, tN_sub1, gF_sF, gA_sF, gL_sF, gV_sF, gF_sA, gA_sA, gL_sA, gV_sA, gF_sB, gA_sB, gL_sB, gV_sB, gF_nA, gA_nA, gL_nA, gV_nA, gT_nA, gF_mV, gA_mV, gL_mV, gV_mV, gT_mV, gT_sB, gT_sA, gT_sF, gF_grw, gT_grw, gL_grw, gA_grw, elT, Nat.reduceEqDiff, eq_self, and_self, and_true, true_and, and_false, false_and, reduceIte, faA, qc_14_3, qc_15_2, qc_17_2, sbA]; omega))
      · exact hQ _ (hend (by omega))
      · exact hQ _ (hend (by omega))
      · obtain ⟨rfl, h1, h2⟩ : s = 1 ∧ (nmT NS n).length = l.length ∧ ∀ qₚ, qₚ < q → (nmT NS n).getD qₚ 0 = l.getD qₚ 0 := by
          rcases hc with h | ⟨h, -⟩
          · exact h
          · omega
        refine c_let (n := n) (q := q) ?_ hN hn ?_ rfl rfl (fun x hx => ?_)
        all_goals (try first | exact rfl | exact True.intro | assumption | omega | (simp only [Int.reduceToNat, Int.toNat_natCast, tN_add, tN_add1, tN_sub1, gF_sF, gA_sF, gL_sF, gV_sF, gF_sA, gA_sA, gL_sA, gV_sA, gF_sB, gA_sB, gL_sB, gV_sB, gF_nA, gA_nA, gL_nA, gV_nA, gT_nA, gF_mV, gA_mV, gL_mV, gV_mV, gT_mV, gT_sB, gT_sA, gT_sF, gF_grw, gT_grw, gL_grw, gA_grw, elT, Nat.reduceEqDiff, eq_self, and_self, and_true, true_and, and_false, false_and, reduceIte, faA, qc_14_3, qc_15_2, qc_17_2, sbA]; omega) | (simp only [Int.reduceToNat, Int.toNat_natCast, tN_add, tN_add1, tN_sub1, gF_sF, gA_sF, gL_sF, gV_sF, gF_sA, gA_sA, gL_sA, gV_sA, gF_sB, gA_sB, gL_sB, gV_sB, gF_nA, gA_nA, gL_nA, gV_nA, gT_nA, gF_mV, gA_mV, gL_mV, gV_mV, gT_mV, gT_sB, gT_sA, gT_sF, gF_grw, gT_grw, gL_grw, gA_grw, elT, Nat.reduceEqDiff, eq_self, and_self, and_true, true_and, and_false, false_and, reduceIte, faA, qc_14_3, qc_15_2, qc_17_2, sbA]; done) | (simp only [Int.reduceToNat, Int.toNat_natCast, tN_add, tN_add1, tN_sub1, gF_sF, gA_sF, gL_sF, gV_sF, gF_sA, gA_sA, gL_sA, gV_sA, gF_sB, gA_sB, gL_sB, gV_sB, gF_nA, gA_nA, gL_nA, gV_nA, gT_nA, gF_mV, gA_mV, gL_mV, gV_mV, gT_mV, gT_sB, gT_sA, gT_sF, gF_grw, gT_grw, gL_grw, gA_grw, elT, Nat.reduceEqDiff, eq_self, and_self, and_true, true_and, and_false, false_and, reduceIte, faA, qc_14_3, qc_15_2, qc_17_2, sbA, grl]; split <;> omega) | (show 2 * gL _ _ _ ≤ gL _ _ _; simp only [Int.reduceToNat, Int.toNat_natCast, tN_add, tN_add1, tN_sub1, gF_sF, gA_sF, gL_sF, gV_sF, gF_sA, gA_sA, gL_sA, gV_sA, gF_sB, gA_sB, gL_sB, gV_sB, gF_nA, gA_nA, gL_nA, gV_nA, gT_nA, gF_mV, gA_mV, gL_mV, gV_mV, gT_mV, gT_sB, gT_sA, gT_sF, gF_grw, gT_grw, gL_grw, gA_grw, elT, Nat.reduceEqDiff, eq_self, and_self, and_true, true_and, and_false, false_and, reduceIte, faA, qc_14_3, qc_15_2, qc_17_2, sbA]; omega))
        repeat' (first | refine And.intro ?_ ?_ | (with_reducible intro c; try simp only [cmpI, cmpN, Classical.not_not, not_true_eq_false, not_false_eq_true, Int.reduceToNat, Int.toNat_natCast, tN_add, tN_add1, tN_sub1, gF_sF, gA_sF, gL_sF, gV_sF, gF_sA, gA_sA, gL_sA, gV_sA, gF_sB, gA_sB, gL_sB, gV_sB, gF_nA, gA_nA, gL_nA, gV_nA, gT_nA, gF_mV, gA_mV, gL_mV, gV_mV, gT_mV, gT_sB, gT_sA, gT_sF, gF_grw, gT_grw, gL_grw, gA_grw, elT, Nat.reduceEqDiff, eq_self, and_self, and_true, true_and, and_false, false_and, reduceIte, faA, qc_14_3, qc_15_2, qc_17_2, sbA] at c))
        all_goals (try first | exact rfl | exact True.intro | assumption | omega | (simp only [Int.reduceToNat, Int.toNat_natCast, tN_add, tN_add1, tN_sub1, gF_sF, gA_sF, gL_sF, gV_sF, gF_sA, gA_sA, gL_sA, gV_sA, gF_sB, gA_sB, gL_sB, gV_sB, gF_nA, gA_nA, gL_nA, gV_nA, gT_nA, gF_mV, gA_mV, gL_mV, gV_mV, gT_mV, gT_sB, gT_sA, gT_sF, gF_grw, gT_grw, gL_grw, gA_grw, elT, Nat.reduceEqDiff, eq_self, and_self, and_true, true_and, and_false, false_and, reduceIte, faA, qc_14_3, qc_15_2, qc_17_2, sbA]; omega) | (simp only [Int.reduceToNat, Int.toNat_natCast, tN_add, tN_add1, tN_sub1, gF_sF, gA_sF, gL_sF, gV_sF, gF_sA, gA_sA, gL_sA, gV_sA, gF_sB, gA_sB, gL_sB, gV_sB, gF_nA, gA_nA, gL_nA, gV_nA, gT_nA, gF_mV, gA_mV, gL_mV, gV_mV, gT_mV, gT_sB, gT_sA, gT_sF, gF_grw, gT_grw, gL_grw, gA_grw, elT, Nat.reduceEqDiff, eq_self, and_self, and_true, true_and, and_false, false_and, reduceIte, faA, qc_14_3, qc_15_2, qc_17_2, sbA]; done) | (simp only [Int.reduceToNat, Int.toNat_natCast, tN_add, tN_add1, tN_sub1, gF_sF, gA_sF, gL_sF, gV_sF, gF_sA, gA_sA, gL_sA, gV_sA, gF_sB, gA_sB, gL_sB, gV_sB, gF_nA, gA_nA, gL_nA, gV_nA, gT_nA, gF_mV, gA_mV, gL_mV, gV_mV, gT_mV, gT_sB, gT_sA, gT_sF, gF_grw, gT_grw, gL_grw, gA_grw, elT, Nat.reduceEqDiff, eq_self, and_self, and_true, true_and, and_false, false_and, reduceIte, faA, qc_14_3, qc_15_2, qc_17_2, sbA, grl]; split <;> omega) | (show 2 * gL _ _ _ ≤ gL _ _ _; simp only [Int.reduceToNat, Int.toNat_natCast, tN_add, tN_add1, tN_sub1, gF_sF, gA_sF, gL_sF, gV_sF, gF_sA, gA_sA, gL_sA, gV_sA, gF_sB, gA_sB, gL_sB, gV_sB, gF_nA, gA_nA, gL_nA, gV_nA, gT_nA, gF_mV, gA_mV, gL_mV, gV_mV, gT_mV, gT_sB, gT_sA, gT_sF, gF_grw, gT_grw, gL_grw, gA_grw, elT, Nat.reduceEqDiff, eq_self, and_self, and_true, true_and, and_false, false_and, reduceIte, faA, qc_14_3, qc_15_2, qc_17_2, sbA]; omega))
        refine c_get5 ?_ ?_ (fun y hy => ?_)
        all_goals (try first | exact rfl | exact True.intro | assumption | omega | (simp only [Int.reduceToNat, Int.toNat_natCast, tN_add, tN_add1, tN_sub1, gF_sF, gA_sF, gL_sF, gV_sF, gF_sA, gA_sA, gL_sA, gV_sA, gF_sB, gA_sB, gL_sB, gV_sB, gF_nA, gA_nA, gL_nA, gV_nA, gT_nA, gF_mV, gA_mV, gL_mV, gV_mV, gT_mV, gT_sB, gT_sA, gT_sF, gF_grw, gT_grw, gL_grw, gA_grw, elT, Nat.reduceEqDiff, eq_self, and_self, and_true, true_and, and_false, false_and, reduceIte, faA, qc_14_3, qc_15_2, qc_17_2, sbA]; omega) | (simp only [Int.reduceToNat, Int.toNat_natCast, tN_add, tN_add1, tN_sub1, gF_sF, gA_sF, gL_sF, gV_sF, gF_sA, gA_sA, gL_sA, gV_sA, gF_sB, gA_sB, gL_sB, gV_sB, gF_nA, gA_nA, gL_nA, gV_nA, gT_nA, gF_mV, gA_mV, gL_mV, gV_mV, gT_mV, gT_sB, gT_sA, gT_sF, gF_grw, gT_grw, gL_grw, gA_grw, elT, Nat.reduceEqDiff, eq_self, and_self, and_true, true_and, and_false, false_and, reduceIte, faA, qc_14_3, qc_15_2, qc_17_2, sbA]; done) | (simp only [Int.reduceToNat, Int.toNat_natCast, tN_add, tN_add1, tN_sub1, gF_sF, gA_sF, gL_sF, gV_sF, gF_sA, gA_sA, gL_sA, gV_sA, gF_sB, gA_sB, gL_sB, gV_sB, gF_nA, gA_nA, gL_nA, gV_nA, gT_nA, gF_mV, gA_mV, gL_mV, gV_mV, gT_mV, gT_sB, gT_sA, gT_sF, gF_grw, gT_grw, gL_grw, gA_grw, elT, Nat.reduceEqDiff, eq_self, and_self, and_true, true_and, and_false, false_and, reduceIte, faA, qc_14_3, qc_15_2, qc_17_2, sbA, grl]; split <;> omega) | (show 2 * gL _ _ _ ≤ gL _ _ _; simp only [Int.reduceToNat, Int.toNat_natCast, tN_add, tN_add1, tN_sub1, gF_sF, gA_sF, gL_sF, gV_sF, gF_sA, gA_sA, gL_sA, gV_sA, gF_sB, gA_sB, gL_sB, gV_sB, gF_nA, gA_nA, gL_nA, gV_nA, gT_nA, gF_mV, gA_mV, gL_mV, gV_mV, gT_mV, gT_sB, gT_sA, gT_sF, gF_grw, gT_grw, gL_grw, gA_grw, elT, Nat.reduceEqDiff, eq_self, and_self, and_true, true_and, and_false, false_and, reduceIte, faA, qc_14_3, qc_15_2, qc_17_2, sbA]; omega))
        · have := hB.1; omega
        have hy2 : y = l.getD q 0 := by
          rw [hy, ← hB.2 q (by omega)]
          simp only [Int.reduceToNat, Int.toNat_natCast, tN_add, tN_add1, tN_sub1, gF_sF, gA_sF, gL_sF, gV_sF, gF_sA, gA_sA, gL_sA, gV_sA, gF_sB, gA_sB, gL_sB, gV_sB, gF_nA, gA_nA, gL_nA, gV_nA, gT_nA, gF_mV, gA_mV, gL_mV, gV_mV, gT_mV, gT_sB, gT_sA, gT_sF, gF_grw, gT_grw, gL_grw, gA_grw, elT, Nat.reduceEqDiff, eq_self, and_self, and_true, true_and, and_false, false_and, reduceIte, faA, qc_14_3, qc_15_2, qc_17_2, sbA]
        repeat' (first | refine And.intro ?_ ?_ | (with_reducible intro c; try simp only [cmpI, cmpN, Classical.not_not, not_true_eq_false, not_false_eq_true, Int.reduceToNat, Int.toNat_natCast, tN_add, tN_add1, tN_sub1, gF_sF, gA_sF, gL_sF, gV_sF, gF_sA, gA_sA, gL_sA, gV_sA, gF_sB, gA_sB, gL_sB, gV_sB, gF_nA, gA_nA, gL_nA, gV_nA, gT_nA, gF_mV, gA_mV, gL_mV, gV_mV, gT_mV, gT_sB, gT_sA, gT_sF, gF_grw, gT_grw, gL_grw, gA_grw, elT, Nat.reduceEqDiff, eq_self, and_self, and_true, true_and, and_false, false_and, reduceIte, faA, qc_14_3, qc_15_2, qc_17_2, sbA] at c))
        all_goals (try first | exact rfl | exact True.intro | assumption | omega | (simp only [Int.reduceToNat, Int.toNat_natCast, tN_add, tN_add1, tN_sub1, gF_sF, gA_sF, gL_sF, gV_sF, gF_sA, gA_sA, gL_sA, gV_sA, gF_sB, gA_sB, gL_sB, gV_sB, gF_nA, gA_nA, gL_nA, gV_nA, gT_nA, gF_mV, gA_mV, gL_mV, gV_mV, gT_mV, gT_sB, gT_sA, gT_sF, gF_grw, gT_grw, gL_grw, gA_grw, elT, Nat.reduceEqDiff, eq_self, and_self, and_true, true_and, and_false, false_and, reduceIte, faA, qc_14_3, qc_15_2, qc_17_2, sbA]; omega) | (simp only [Int.reduceToNat, Int.toNat_natCast, tN_add, tN_add1, tN_sub1, gF_sF, gA_sF, gL_sF, gV_sF, gF_sA, gA_sA, gL_sA, gV_sA, gF_sB, gA_sB, gL_sB, gV_sB, gF_nA, gA_nA, gL_nA, gV_nA, gT_nA, gF_mV, gA_mV, gL_mV, gV_mV, gT_mV, gT_sB, gT_sA, gT_sF, gF_grw, gT_grw, gL_grw, gA_grw, elT, Nat.reduceEqDiff, eq_self, and_self, and_true, true_and, and_false, false_and, reduceIte, faA, qc_14_3, qc_15_2, qc_17_2, sbA]; done) | (simp only [Int.reduceToNat, Int.toNat_natCast, tN_add, tN_add1, tN_sub1, gF_sF, gA_sF, gL_sF, gV_sF, gF_sA, gA_sA, gL_sA, gV_sA, gF_sB, gA_sB, gL_sB, gV_sB, gF_nA, gA_nA, gL_nA, gV_nA, gT_nA, gF_mV, gA_mV, gL_mV, gV_mV, gT_mV, gT_sB, gT_sA, gT_sF, gF_grw, gT_grw, gL_grw, gA_grw, elT, Nat.reduceEqDiff, eq_self, and_self, and_true, true_and, and_false, false_and, reduceIte, faA, qc_14_3, qc_15_2, qc_17_2, sbA, grl]; split <;> omega) | (show 2 * gL _ _ _ ≤ gL _ _ _; simp only [Int.reduceToNat, Int.toNat_natCast, tN_add, tN_add1, tN_sub1, gF_sF, gA_sF, gL_sF, gV_sF, gF_sA, gA_sA, gL_sA, gV_sA, gF_sB, gA_sB, gL_sB, gV_sB, gF_nA, gA_nA, gL_nA, gV_nA, gT_nA, gF_mV, gA_mV, gL_mV, gV_mV, gT_mV, gT_sB, gT_sA, gT_sF, gF_grw, gT_grw, gL_grw, gA_grw, elT, Nat.reduceEqDiff, eq_self, and_self, and_true, true_and, and_false, false_and, reduceIte, faA, qc_14_3, qc_15_2, qc_17_2, sbA]; omega))
        · refine ih (q + 1) 0 (by omega) (Or.inr ⟨rfl, fun e => ?_⟩)
          rw [e] at hx
          omega
        · refine ih (q + 1) 1 (by omega) (Or.inl ⟨rfl, h1, fun qₚ hqₚ => ?_⟩)
          by_cases hh : qₚ = q
          · rw [hh]; omega
          · exact h2 qₚ (by omega)
  refine ct_seg (il := (fun _ => false)) (mc := true) (fun _ => grow_ok) 40 [20] (by decide) (Nat.le_of_ble_eq_true rfl) ?_
  repeat' (first | refine And.intro ?_ ?_ | (with_reducible intro c; try simp only [cmpI, cmpN, Classical.not_not, not_true_eq_false, not_false_eq_true, Int.reduceToNat, Int.toNat_natCast, tN_add, tN_add1, tN_sub1, gF_sF, gA_sF, gL_sF, gV_sF, gF_sA, gA_sA, gL_sA, gV_sA, gF_sB, gA_sB, gL_sB, gV_sB, gF_nA, gA_nA, gL_nA, gV_nA, gT_nA, gF_mV, gA_mV, gL_mV, gV_mV, gT_mV, gT_sB, gT_sA, gT_sF, gF_grw, gT_grw, gL_grw, gA_grw, elT, Nat.reduceEqDiff, eq_self, and_self, and_true, true_and, and_false, false_and, reduceIte, faA, qc_14_3, qc_15_2, qc_17_2, sbA] at c))
  all_goals (try first | exact rfl | exact True.intro | assumption | omega | (simp only [Int.reduceToNat, Int.toNat_natCast, tN_add, tN_add1, tN_sub1, gF_sF, gA_sF, gL_sF, gV_sF, gF_sA, gA_sA, gL_sA, gV_sA, gF_sB, gA_sB, gL_sB, gV_sB, gF_nA, gA_nA, gL_nA, gV_nA, gT_nA, gF_mV, gA_mV, gL_mV, gV_mV, gT_mV, gT_sB, gT_sA, gT_sF, gF_grw, gT_grw, gL_grw, gA_grw, elT, Nat.reduceEqDiff, eq_self, and_self, and_true, true_and, and_false, false_and, reduceIte, faA, qc_14_3, qc_15_2, qc_17_2, sbA]; omega) | (simp only [Int.reduceToNat, Int.toNat_natCast, tN_add, tN_add1, tN_sub1, gF_sF, gA_sF, gL_sF, gV_sF, gF_sA, gA_sA, gL_sA, gV_sA, gF_sB, gA_sB, gL_sB, gV_sB, gF_nA, gA_nA, gL_nA, gV_nA, gT_nA, gF_mV, gA_mV, gL_mV, gV_mV, gT_mV, gT_sB, gT_sA, gT_sF, gF_grw, gT_grw, gL_grw, gA_grw, elT, Nat.reduceEqDiff, eq_self, and_self, and_true, true_and, and_false, false_and, reduceIte, faA, qc_14_3, qc_15_2, qc_17_2, sbA]; done) | (simp only [Int.reduceToNat, Int.toNat_natCast, tN_add, tN_add1, tN_sub1, gF_sF, gA_sF, gL_sF, gV_sF, gF_sA, gA_sA, gL_sA, gV_sA, gF_sB, gA_sB, gL_sB, gV_sB, gF_nA, gA_nA, gL_nA, gV_nA, gT_nA, gF_mV, gA_mV, gL_mV, gV_mV, gT_mV, gT_sB, gT_sA, gT_sF, gF_grw, gT_grw, gL_grw, gA_grw, elT, Nat.reduceEqDiff, eq_self, and_self, and_true, true_and, and_false, false_and, reduceIte, faA, qc_14_3, qc_15_2, qc_17_2, sbA, grl]; split <;> omega) | (show 2 * gL _ _ _ ≤ gL _ _ _; simp only [Int.reduceToNat, Int.toNat_natCast, tN_add, tN_add1, tN_sub1, gF_sF, gA_sF, gL_sF, gV_sF, gF_sA, gA_sA, gL_sA, gV_sA, gF_sB, gA_sB, gL_sB, gV_sB, gF_nA, gA_nA, gL_nA, gV_nA, gT_nA, gF_mV, gA_mV, gL_mV, gV_mV, gT_mV, gT_sB, gT_sA, gT_sF, gF_grw, gT_grw, gL_grw, gA_grw, elT, Nat.reduceEqDiff, eq_self, and_self, and_true, true_and, and_false, false_and, reduceIte, faA, qc_14_3, qc_15_2, qc_17_2, sbA]; omega))
  refine c_len (n := n) hN hn rfl (fun x hx => ?_)
  repeat' (first | refine And.intro ?_ ?_ | (with_reducible intro c; try simp only [cmpI, cmpN, Classical.not_not, not_true_eq_false, not_false_eq_true, Int.reduceToNat, Int.toNat_natCast, tN_add, tN_add1, tN_sub1, gF_sF, gA_sF, gL_sF, gV_sF, gF_sA, gA_sA, gL_sA, gV_sA, gF_sB, gA_sB, gL_sB, gV_sB, gF_nA, gA_nA, gL_nA, gV_nA, gT_nA, gF_mV, gA_mV, gL_mV, gV_mV, gT_mV, gT_sB, gT_sA, gT_sF, gF_grw, gT_grw, gL_grw, gA_grw, elT, Nat.reduceEqDiff, eq_self, and_self, and_true, true_and, and_false, false_and, reduceIte, faA, qc_14_3, qc_15_2, qc_17_2, sbA] at c))
  all_goals (try first | exact rfl | exact True.intro | assumption | omega | (simp only [Int.reduceToNat, Int.toNat_natCast, tN_add, tN_add1, tN_sub1, gF_sF, gA_sF, gL_sF, gV_sF, gF_sA, gA_sA, gL_sA, gV_sA, gF_sB, gA_sB, gL_sB, gV_sB, gF_nA, gA_nA, gL_nA, gV_nA, gT_nA, gF_mV, gA_mV, gL_mV, gV_mV, gT_mV, gT_sB, gT_sA, gT_sF, gF_grw, gT_grw, gL_grw, gA_grw, elT, Nat.reduceEqDiff, eq_self, and_self, and_true, true_and, and_false, false_and, reduceIte, faA, qc_14_3, qc_15_2, qc_17_2, sbA]; omega) | (simp only [Int.reduceToNat, Int.toNat_natCast, tN_add, tN_add1, tN_sub1, gF_sF, gA_sF, gL_sF, gV_sF, gF_sA, gA_sA, gL_sA, gV_sA, gF_sB, gA_sB, gL_sB, gV_sB, gF_nA, gA_nA, gL_nA, gV_nA, gT_nA, gF_mV, gA_mV, gL_mV, gV_mV, gT_mV, gT_sB, gT_sA, gT_sF, gF_grw, gT_grw, gL_grw, gA_grw, elT, Nat.reduceEqDiff, eq_self, and_self, and_true, true_and, and_false, false_and, reduceIte, faA, qc_14_3, qc_15_2, qc_17_2, sbA]; done) | (simp only [Int.reduceToNat, Int.toNat_natCast, tN_add, tN_add1, tN_sub1, gF_sF, gA_sF, gL_sF, gV_sF, gF_sA, gA_sA, gL_sA, gV_sA, gF_sB, gA_sB, gL_sB, gV_sB, gF_nA, gA_nA, gL_nA, gV_nA, gT_nA, gF_mV, gA_mV, gL_mV, gV_mV, gT_mV, gT_sB, gT_sA, gT_sF, gF_grw, gT_grw, gL_grw, gA_grw, elT, Nat.reduceEqDiff, eq_self, and_self, and_true, true_and, and_false, false_and, reduceIte, faA, qc_14_3, qc_15_2, qc_17_2, sbA, grl]; split <;> omega) | (show 2 * gL _ _ _ ≤ gL _ _ _; simp only [Int.reduceToNat, Int.toNat_natCast, tN_add, tN_add1, tN_sub1, gF_sF, gA_sF, gL_sF, gV_sF, gF_sA, gA_sA, gL_sA, gV_sA, gF_sB, gA_sB, gL_sB, gV_sB, gF_nA, gA_nA, gL_nA, gV_nA, gT_nA, gF_mV, gA_mV, gL_mV, gV_mV, gT_mV, gT_sB, gT_sA, gT_sF, gF_grw, gT_grw, gL_grw, gA_grw, elT, Nat.reduceEqDiff, eq_self, and_self, and_true, true_and, and_false, false_and, reduceIte, faA, qc_14_3, qc_15_2, qc_17_2, sbA]; omega))
  · refine loop (l.length + 1) 0 0 (by omega) (Or.inr ⟨rfl, fun e => ?_⟩)
    rw [e] at hx
    omega
  · exact loop (l.length + 1) 0 1 (by omega) (Or.inl ⟨rfl, by omega, fun qₚ h => absurd h (by omega)⟩)
theorem tb_hit {T : Nat → Int} {L : Nat} {lv : Nat → Prop} {h : Nat → Nat} (hT : TB T L lv h) {M : Nat → Prop} {e d : Nat} (he : lv e) (hM : M e) (hu : ∀ eₚ, lv eₚ → M eₚ → eₚ = e) (h1 : ∀ i, i < d → T ((h e + i) % L) ≠ 0 ∧ ¬ M (T ((h e + i) % L)).toNat) (h2 : T ((h e + d) % L) = 0 ∨ (T ((h e + d) % L) ≠ 0 ∧ M (T ((h e + d) % L)).toNat)) : T ((h e + d) % L) = (e : Int) := by
  obtain ⟨dₚ, a1, a2, a3⟩ := tb_find hT he hu
  have : d = dₚ := by
    rcases Nat.lt_trichotomy d dₚ with c | c | c
    · exfalso
      have := a3 d c
      rcases h2 with q | q
      · exact this.1 q
      · exact this.2 q.2
    · exact c
    · exfalso
      have := h1 dₚ c
      rw [a2] at this
      exact this.2 (by simpa using hM)
  rw [this]
  exact a2
theorem and_slot {L e a : Nat} (hL : L = 2 ^ e) (he : e ≤ 31) : iAnd (a : Int) ((L : Int) - 1) = ((a % L : Nat) : Int) := by
  have h := iAnd_mask (a : Int) e he
  have hc : ((2 : Int) ^ e) = (L : Int) := by rw [hL, Int.natCast_pow]; rfl
  rw [hc] at h
  rw [h, Int.natCast_emod]
theorem and_hsh {L e : Nat} {l : List Int} (hL : L = 2 ^ e) (he : e ≤ 31) : iAnd (mixF l) ((L : Int) - 1) = ((hsh L l : Nat) : Int) := by
  have h := iAnd_mask (mixF l) e he
  have hc : ((2 : Int) ^ e) = (L : Int) := by rw [hL, Int.natCast_pow]; rfl
  have hp : 0 < L := by rw [hL]; exact Nat.two_pow_pos e
  rw [hc] at h
  rw [h]
  unfold hsh
  have := Int.emod_nonneg (mixF l) (show (L : Int) ≠ 0 by omega)
  omega
theorem hsh_lt {L : Nat} {l : List Int} (h : 0 < L) : hsh L l < L := by
  unfold hsh
  have := Int.emod_lt_of_pos (mixF l) (show (0 : Int) < (L : Int) by omega)
  have := Int.emod_nonneg (mixF l) (show (L : Int) ≠ 0 by omega)
  omega
theorem c_seek2 {k p c : Nat} {ai li : Int} {l : List Int} {NS : List (List Int)} {σ : Sg} {Q : Option AV → Sg → Prop} {E : Int → Sg → Prop} (hk : 3 ≤ k) (hN : NmB σ NS) (hT : NmT σ NS c) (hc : c ≤ NS.length) (hcL : c < gL σ 4 4) (hB : Bt σ 2 p l) (hs : p + l.length ≤ 100000) (ha : ai = (p : Int)) (hl : li = (l.length : Int))
    (hQ : ∀ d, d < gL σ 4 4 → (∀ i, i < d → gA σ 4 4 ((hsh (gL σ 4 4) l + i) % gL σ 4 4) ≠ 0 ∧ ¬ nmT NS ((gA σ 4 4 ((hsh (gL σ 4 4) l + i) % gL σ 4 4)).toNat - 1) = l) → (gA σ 4 4 ((hsh (gL σ 4 4) l + d) % gL σ 4 4) = 0 ∨ (gA σ 4 4 ((hsh (gL σ 4 4) l + d) % gL σ 4 4) ≠ 0 ∧ nmT NS ((gA σ 4 4 ((hsh (gL σ 4 4) l + d) % gL σ 4 4)).toNat - 1) = l)) →
      Q (some (vI (((hsh (gL σ 4 4) l + d) % gL σ 4 4 : Nat) : Int))) σ) : Ct 1 39 k [vO 4, vO 2, vI ai, vI li] σ Q E := by
  subst ha hl
  obtain ⟨e, he1, he2, he3⟩ := hN.2.2.2.2.2.2.2
  have hb9 := hN.2.2.2.2.2.2.1.2
  have hpow : 2 ^ e ≤ 2 ^ 12 := Nat.pow_le_pow_right (by decide) he2
  have hL0 : 0 < gL σ 4 4 := by omega
  obtain ⟨d0, hd0, hz, -⟩ := tb_free hT (fun e => e - 1) (fun e h => by have := h.1; have := h.2; show e - 1 < c; omega) (fun e eₚ h hₚ q => by have := h.1; have := hₚ.1; have q : e - 1 = eₚ - 1 := q; omega) hcL (hsh (gL σ 4 4) l)
  obtain ⟨d, hd1, hd2, hd3⟩ := least (P := fun d => gA σ 4 4 ((hsh (gL σ 4 4) l + d) % gL σ 4 4) = 0 ∨ nmT NS ((gA σ 4 4 ((hsh (gL σ 4 4) l + d) % gL σ 4 4)).toNat - 1) = l) (Or.inl hz)
  have hfin := hQ d (by omega) (fun i hi => ⟨fun q => hd3 i hi (Or.inl q), fun q => hd3 i hi (Or.inr q)⟩) (by
    by_cases q : gA σ 4 4 ((hsh (gL σ 4 4) l + d) % gL σ 4 4) = 0
    · exact Or.inl q
    · rcases hd2 with w | w
      · exact Or.inl w
      · exact Or.inr ⟨q, w⟩)
  have loop : ∀ (m i : Nat), i ≤ d → d - i < m → Jx (mdT 39 [vO 4, vO 2, vI (p : Int), vI (l.length : Int)]) 1 39 k [vO 4, vO 2, vI (p : Int), vI (l.length : Int)] σ Q E 16 [some (vO 4), some (vO 2), some (vI (p : Int)), some (vI (l.length : Int)), some (vI (((hsh (gL σ 4 4) l + i) % gL σ 4 4 : Nat) : Int))] [] σ := by
    intro m
    induction m with
    | zero => intro i _ h; omega
    | succ m ih =>
      intro i hi hm
      have hlt := Nat.mod_lt (hsh (gL σ 4 4) l + i) hL0
      have hid : ∀ P : Prop, (gA σ 4 4 ((hsh (gL σ 4 4) l + i) % gL σ 4 4) = 0 ∨ nmT NS ((gA σ 4 4 ((hsh (gL σ 4 4) l + i) % gL σ 4 4)).toNat - 1) = l) → (i = d → P) → P := fun P q f => by
        rcases Nat.lt_or_ge i d with w | w
        · exact absurd q (hd3 i w)
        · exact f (by omega)
      refine jx_seg (il := (fun _ => false)) (mc := true) (fun _ => grow_ok) 60 [16] (by decide) rfl ?_
      repeat' (first | refine And.intro ?_ ?_ | (with_reducible intro c; try simp only [cmpI, cmpN, Classical.not_not, not_true_eq_false, not_false_eq_true, Int.reduceToNat, Int.toNat_natCast, tN_add, tN_add1, tN_sub1, gF_sF, gA_sF, gL_sF, gV_sF, gF_sA, gA_sA, gL_sA, gV_sA, gF_sB, gA_sB, gL_sB, gV_sB, gF_nA, gA_nA, gL_nA, gV_nA, gT_nA, gF_mV, gA_mV, gL_mV, gV_mV, gT_mV, gT_sB, gT_sA, gT_sF, gF_grw, gT_grw, gL_grw, gA_grw, elT, Nat.reduceEqDiff, eq_self, and_self, and_true, true_and, and_false, false_and, reduceIte, faA, qc_14_3, qc_15_2, qc_17_2, sbA] at c))
      all_goals (try first | exact rfl | exact True.intro | assumption | omega | (simp only [Int.reduceToNat, Int.toNat_natCast, tN_add, tN_add1, tN_sub1, gF_sF, gA_sF, gL_sF, gV_sF, gF_sA, gA_sA, gL_sA, gV_sA, gF_sB, gA_sB, gL_sB, gV_sB, gF_nA, gA_nA, gL_nA, gV_nA, gT_nA, gF_mV, gA_mV, gL_mV, gV_mV, gT_mV, gT_sB, gT_sA, gT_sF, gF_grw, gT_grw, gL_grw, gA_grw, elT, Nat.reduceEqDiff, eq_self, and_self, and_true, true_and, and_false, false_and, reduceIte, faA, qc_14_3, qc_15_2, qc_17_2, sbA]; omega) | (simp only [Int.reduceToNat, Int.toNat_natCast, tN_add, tN_add1, tN_sub1, gF_sF, gA_sF, gL_sF, gV_sF, gF_sA, gA_sA, gL_sA, gV_sA, gF_sB, gA_sB, gL_sB, gV_sB, gF_nA, gA_nA, gL_nA, gV_nA, gT_nA, gF_mV, gA_mV, gL_mV, gV_mV, gT_mV, gT_sB, gT_sA, gT_sF, gF_grw, gT_grw, gL_grw, gA_grw, elT, Nat.reduceEqDiff, eq_self, and_self, and_true, true_and, and_false, false_and, reduceIte, faA, qc_14_3, qc_15_2, qc_17_2, sbA]; done) | (simp only [Int.reduceToNat, Int.toNat_natCast, tN_add, tN_add1, tN_sub1, gF_sF, gA_sF, gL_sF, gV_sF, gF_sA, gA_sA, gL_sA, gV_sA, gF_sB, gA_sB, gL_sB, gV_sB, gF_nA, gA_nA, gL_nA, gV_nA, gT_nA, gF_mV, gA_mV, gL_mV, gV_mV, gT_mV, gT_sB, gT_sA, gT_sF, gF_grw, gT_grw, gL_grw, gA_grw, elT, Nat.reduceEqDiff, eq_self, and_self, and_true, true_and, and_false, false_and, reduceIte, faA, qc_14_3, qc_15_2, qc_17_2, sbA, grl]; split <;> omega) | (show 2 * gL _ _ _ ≤ gL _ _ _; simp only [Int.reduceToNat, Int.toNat_natCast, tN_add, tN_add1, tN_sub1, gF_sF, gA_sF, gL_sF, gV_sF, gF_sA, gA_sA, gL_sA, gV_sA, gF_sB, gA_sB, gL_sB, gV_sB, gF_nA, gA_nA, gL_nA, gV_nA, gT_nA, gF_mV, gA_mV, gL_mV, gV_mV, gT_mV, gT_sB, gT_sA, gT_sF, gF_grw, gT_grw, gL_grw, gA_grw, elT, Nat.reduceEqDiff, eq_self, and_self, and_true, true_and, and_false, false_and, reduceIte, faA, qc_14_3, qc_15_2, qc_17_2, sbA]; omega))
      · exact hid _ (Or.inl c) (fun q => by rw [q]; exact hfin)
      · have hp := tb_pos hT hlt (by assumption)
        have hp2 := hp.2.2
        simp only [Int.reduceToNat, Int.toNat_natCast, tN_add, tN_add1, tN_sub1, gF_sF, gA_sF, gL_sF, gV_sF, gF_sA, gA_sA, gL_sA, gV_sA, gF_sB, gA_sB, gL_sB, gV_sB, gF_nA, gA_nA, gL_nA, gV_nA, gT_nA, gF_mV, gA_mV, gL_mV, gV_mV, gT_mV, gT_sB, gT_sA, gT_sF, gF_grw, gT_grw, gL_grw, gA_grw, elT, Nat.reduceEqDiff, eq_self, and_self, and_true, true_and, and_false, false_and, reduceIte, faA, qc_14_3, qc_15_2, qc_17_2, sbA]; omega
      · have hp := tb_pos hT hlt (by assumption)
        have hp2 := hp.2.2
        simp only [Int.reduceToNat, Int.toNat_natCast, tN_add, tN_add1, tN_sub1, gF_sF, gA_sF, gL_sF, gV_sF, gF_sA, gA_sA, gL_sA, gV_sA, gF_sB, gA_sB, gL_sB, gV_sB, gF_nA, gA_nA, gL_nA, gV_nA, gT_nA, gF_mV, gA_mV, gL_mV, gV_mV, gT_mV, gT_sB, gT_sA, gT_sF, gF_grw, gT_grw, gL_grw, gA_grw, elT, Nat.reduceEqDiff, eq_self, and_self, and_true, true_and, and_false, false_and, reduceIte, faA, qc_14_3, qc_15_2, qc_17_2, sbA]; omega
      · have hp := tb_pos hT hlt (by assumption)
        have hp2 := hp.2.2
        refine c_is2 (n := (gA σ 4 4 ((hsh (gL σ 4 4) l + i) % gL σ 4 4)).toNat - 1) ?_ hN ?_ hB hs ?_ rfl rfl (fun x hx => ?_)
        all_goals (try first | exact rfl | exact True.intro | assumption | omega | (simp only [Int.reduceToNat, Int.toNat_natCast, tN_add, tN_add1, tN_sub1, gF_sF, gA_sF, gL_sF, gV_sF, gF_sA, gA_sA, gL_sA, gV_sA, gF_sB, gA_sB, gL_sB, gV_sB, gF_nA, gA_nA, gL_nA, gV_nA, gT_nA, gF_mV, gA_mV, gL_mV, gV_mV, gT_mV, gT_sB, gT_sA, gT_sF, gF_grw, gT_grw, gL_grw, gA_grw, elT, Nat.reduceEqDiff, eq_self, and_self, and_true, true_and, and_false, false_and, reduceIte, faA, qc_14_3, qc_15_2, qc_17_2, sbA]; omega) | (simp only [Int.reduceToNat, Int.toNat_natCast, tN_add, tN_add1, tN_sub1, gF_sF, gA_sF, gL_sF, gV_sF, gF_sA, gA_sA, gL_sA, gV_sA, gF_sB, gA_sB, gL_sB, gV_sB, gF_nA, gA_nA, gL_nA, gV_nA, gT_nA, gF_mV, gA_mV, gL_mV, gV_mV, gT_mV, gT_sB, gT_sA, gT_sF, gF_grw, gT_grw, gL_grw, gA_grw, elT, Nat.reduceEqDiff, eq_self, and_self, and_true, true_and, and_false, false_and, reduceIte, faA, qc_14_3, qc_15_2, qc_17_2, sbA]; done) | (simp only [Int.reduceToNat, Int.toNat_natCast, tN_add, tN_add1, tN_sub1, gF_sF, gA_sF, gL_sF, gV_sF, gF_sA, gA_sA, gL_sA, gV_sA, gF_sB, gA_sB, gL_sB, gV_sB, gF_nA, gA_nA, gL_nA, gV_nA, gT_nA, gF_mV, gA_mV, gL_mV, gV_mV, gT_mV, gT_sB, gT_sA, gT_sF, gF_grw, gT_grw, gL_grw, gA_grw, elT, Nat.reduceEqDiff, eq_self, and_self, and_true, true_and, and_false, false_and, reduceIte, faA, qc_14_3, qc_15_2, qc_17_2, sbA, grl]; split <;> omega) | (show 2 * gL _ _ _ ≤ gL _ _ _; simp only [Int.reduceToNat, Int.toNat_natCast, tN_add, tN_add1, tN_sub1, gF_sF, gA_sF, gL_sF, gV_sF, gF_sA, gA_sA, gL_sA, gV_sA, gF_sB, gA_sB, gL_sB, gV_sB, gF_nA, gA_nA, gL_nA, gV_nA, gT_nA, gF_mV, gA_mV, gL_mV, gV_mV, gT_mV, gT_sB, gT_sA, gT_sF, gF_grw, gT_grw, gL_grw, gA_grw, elT, Nat.reduceEqDiff, eq_self, and_self, and_true, true_and, and_false, false_and, reduceIte, faA, qc_14_3, qc_15_2, qc_17_2, sbA]; omega))
        repeat' (first | refine And.intro ?_ ?_ | (with_reducible intro c; try simp only [cmpI, cmpN, Classical.not_not, not_true_eq_false, not_false_eq_true, Int.reduceToNat, Int.toNat_natCast, tN_add, tN_add1, tN_sub1, gF_sF, gA_sF, gL_sF, gV_sF, gF_sA, gA_sA, gL_sA, gV_sA, gF_sB, gA_sB, gL_sB, gV_sB, gF_nA, gA_nA, gL_nA, gV_nA, gT_nA, gF_mV, gA_mV, gL_mV, gV_mV, gT_mV, gT_sB, gT_sA, gT_sF, gF_grw, gT_grw, gL_grw, gA_grw, elT, Nat.reduceEqDiff, eq_self, and_self, and_true, true_and, and_false, false_and, reduceIte, faA, qc_14_3, qc_15_2, qc_17_2, sbA] at c))
        all_goals (try first | exact rfl | exact True.intro | assumption | omega | (simp only [Int.reduceToNat, Int.toNat_natCast, tN_add, tN_add1, tN_sub1, gF_sF, gA_sF, gL_sF, gV_sF, gF_sA, gA_sA, gL_sA, gV_sA, gF_sB, gA_sB, gL_sB, gV_sB, gF_nA, gA_nA, gL_nA, gV_nA, gT_nA, gF_mV, gA_mV, gL_mV, gV_mV, gT_mV, gT_sB, gT_sA, gT_sF, gF_grw, gT_grw, gL_grw, gA_grw, elT, Nat.reduceEqDiff, eq_self, and_self, and_true, true_and, and_false, false_and, reduceIte, faA, qc_14_3, qc_15_2, qc_17_2, sbA]; omega) | (simp only [Int.reduceToNat, Int.toNat_natCast, tN_add, tN_add1, tN_sub1, gF_sF, gA_sF, gL_sF, gV_sF, gF_sA, gA_sA, gL_sA, gV_sA, gF_sB, gA_sB, gL_sB, gV_sB, gF_nA, gA_nA, gL_nA, gV_nA, gT_nA, gF_mV, gA_mV, gL_mV, gV_mV, gT_mV, gT_sB, gT_sA, gT_sF, gF_grw, gT_grw, gL_grw, gA_grw, elT, Nat.reduceEqDiff, eq_self, and_self, and_true, true_and, and_false, false_and, reduceIte, faA, qc_14_3, qc_15_2, qc_17_2, sbA]; done) | (simp only [Int.reduceToNat, Int.toNat_natCast, tN_add, tN_add1, tN_sub1, gF_sF, gA_sF, gL_sF, gV_sF, gF_sA, gA_sA, gL_sA, gV_sA, gF_sB, gA_sB, gL_sB, gV_sB, gF_nA, gA_nA, gL_nA, gV_nA, gT_nA, gF_mV, gA_mV, gL_mV, gV_mV, gT_mV, gT_sB, gT_sA, gT_sF, gF_grw, gT_grw, gL_grw, gA_grw, elT, Nat.reduceEqDiff, eq_self, and_self, and_true, true_and, and_false, false_and, reduceIte, faA, qc_14_3, qc_15_2, qc_17_2, sbA, grl]; split <;> omega) | (show 2 * gL _ _ _ ≤ gL _ _ _; simp only [Int.reduceToNat, Int.toNat_natCast, tN_add, tN_add1, tN_sub1, gF_sF, gA_sF, gL_sF, gV_sF, gF_sA, gA_sA, gL_sA, gV_sA, gF_sB, gA_sB, gL_sB, gV_sB, gF_nA, gA_nA, gL_nA, gV_nA, gT_nA, gF_mV, gA_mV, gL_mV, gV_mV, gT_mV, gT_sB, gT_sA, gT_sF, gF_grw, gT_grw, gL_grw, gA_grw, elT, Nat.reduceEqDiff, eq_self, and_self, and_true, true_and, and_false, false_and, reduceIte, faA, qc_14_3, qc_15_2, qc_17_2, sbA]; omega))
        · refine hid _ (Or.inr ?_) (fun q => by rw [q]; exact hfin)
          by_cases w : nmT NS ((gA σ 4 4 ((hsh (gL σ 4 4) l + i) % gL σ 4 4)).toNat - 1) = l
          · exact w
          · rw [if_neg w] at hx; omega
        · have hne : i ≠ d := fun q => by
            subst q
            rcases hd2 with w | w
            · contradiction
            · rw [if_pos w] at hx; omega
          have e1 : iAnd ((((hsh (gL σ 4 4) l + i) % gL σ 4 4 : Nat) : Int) + 1) ((gL σ 4 4 : Int) - 1) = (((hsh (gL σ 4 4) l + (i + 1)) % gL σ 4 4 : Nat) : Int) := by
            have := and_slot (a := (hsh (gL σ 4 4) l + i) % gL σ 4 4 + 1) he3 (by omega)
            rw [Nat.mod_add_mod] at this
            exact this
          have e2 := ih (i + 1) (by omega) (by omega)
          rw [← e1] at e2
          exact e2
  refine ct_seg (il := (fun _ => false)) (mc := true) (fun _ => grow_ok) 60 [16] (by decide) (Nat.le_of_ble_eq_true rfl) ?_
  repeat' (first | refine And.intro ?_ ?_ | (with_reducible intro c; try simp only [cmpI, cmpN, Classical.not_not, not_true_eq_false, not_false_eq_true, Int.reduceToNat, Int.toNat_natCast, tN_add, tN_add1, tN_sub1, gF_sF, gA_sF, gL_sF, gV_sF, gF_sA, gA_sA, gL_sA, gV_sA, gF_sB, gA_sB, gL_sB, gV_sB, gF_nA, gA_nA, gL_nA, gV_nA, gT_nA, gF_mV, gA_mV, gL_mV, gV_mV, gT_mV, gT_sB, gT_sA, gT_sF, gF_grw, gT_grw, gL_grw, gA_grw, elT, Nat.reduceEqDiff, eq_self, and_self, and_true, true_and, and_false, false_and, reduceIte, faA, qc_14_3, qc_15_2, qc_17_2, sbA] at c))
  all_goals (try first | exact rfl | exact True.intro | assumption | omega | (simp only [Int.reduceToNat, Int.toNat_natCast, tN_add, tN_add1, tN_sub1, gF_sF, gA_sF, gL_sF, gV_sF, gF_sA, gA_sA, gL_sA, gV_sA, gF_sB, gA_sB, gL_sB, gV_sB, gF_nA, gA_nA, gL_nA, gV_nA, gT_nA, gF_mV, gA_mV, gL_mV, gV_mV, gT_mV, gT_sB, gT_sA, gT_sF, gF_grw, gT_grw, gL_grw, gA_grw, elT, Nat.reduceEqDiff, eq_self, and_self, and_true, true_and, and_false, false_and, reduceIte, faA, qc_14_3, qc_15_2, qc_17_2, sbA]; omega) | (simp only [Int.reduceToNat, Int.toNat_natCast, tN_add, tN_add1, tN_sub1, gF_sF, gA_sF, gL_sF, gV_sF, gF_sA, gA_sA, gL_sA, gV_sA, gF_sB, gA_sB, gL_sB, gV_sB, gF_nA, gA_nA, gL_nA, gV_nA, gT_nA, gF_mV, gA_mV, gL_mV, gV_mV, gT_mV, gT_sB, gT_sA, gT_sF, gF_grw, gT_grw, gL_grw, gA_grw, elT, Nat.reduceEqDiff, eq_self, and_self, and_true, true_and, and_false, false_and, reduceIte, faA, qc_14_3, qc_15_2, qc_17_2, sbA]; done) | (simp only [Int.reduceToNat, Int.toNat_natCast, tN_add, tN_add1, tN_sub1, gF_sF, gA_sF, gL_sF, gV_sF, gF_sA, gA_sA, gL_sA, gV_sA, gF_sB, gA_sB, gL_sB, gV_sB, gF_nA, gA_nA, gL_nA, gV_nA, gT_nA, gF_mV, gA_mV, gL_mV, gV_mV, gT_mV, gT_sB, gT_sA, gT_sF, gF_grw, gT_grw, gL_grw, gA_grw, elT, Nat.reduceEqDiff, eq_self, and_self, and_true, true_and, and_false, false_and, reduceIte, faA, qc_14_3, qc_15_2, qc_17_2, sbA, grl]; split <;> omega) | (show 2 * gL _ _ _ ≤ gL _ _ _; simp only [Int.reduceToNat, Int.toNat_natCast, tN_add, tN_add1, tN_sub1, gF_sF, gA_sF, gL_sF, gV_sF, gF_sA, gA_sA, gL_sA, gV_sA, gF_sB, gA_sB, gL_sB, gV_sB, gF_nA, gA_nA, gL_nA, gV_nA, gT_nA, gF_mV, gA_mV, gL_mV, gV_mV, gT_mV, gT_sB, gT_sA, gT_sF, gF_grw, gT_grw, gL_grw, gA_grw, elT, Nat.reduceEqDiff, eq_self, and_self, and_true, true_and, and_false, false_and, reduceIte, faA, qc_14_3, qc_15_2, qc_17_2, sbA]; omega))
  refine c_mix2 ?_ hB hs rfl rfl (fun x hx => ?_)
  all_goals (try first | exact rfl | exact True.intro | assumption | omega | (simp only [Int.reduceToNat, Int.toNat_natCast, tN_add, tN_add1, tN_sub1, gF_sF, gA_sF, gL_sF, gV_sF, gF_sA, gA_sA, gL_sA, gV_sA, gF_sB, gA_sB, gL_sB, gV_sB, gF_nA, gA_nA, gL_nA, gV_nA, gT_nA, gF_mV, gA_mV, gL_mV, gV_mV, gT_mV, gT_sB, gT_sA, gT_sF, gF_grw, gT_grw, gL_grw, gA_grw, elT, Nat.reduceEqDiff, eq_self, and_self, and_true, true_and, and_false, false_and, reduceIte, faA, qc_14_3, qc_15_2, qc_17_2, sbA]; omega) | (simp only [Int.reduceToNat, Int.toNat_natCast, tN_add, tN_add1, tN_sub1, gF_sF, gA_sF, gL_sF, gV_sF, gF_sA, gA_sA, gL_sA, gV_sA, gF_sB, gA_sB, gL_sB, gV_sB, gF_nA, gA_nA, gL_nA, gV_nA, gT_nA, gF_mV, gA_mV, gL_mV, gV_mV, gT_mV, gT_sB, gT_sA, gT_sF, gF_grw, gT_grw, gL_grw, gA_grw, elT, Nat.reduceEqDiff, eq_self, and_self, and_true, true_and, and_false, false_and, reduceIte, faA, qc_14_3, qc_15_2, qc_17_2, sbA]; done) | (simp only [Int.reduceToNat, Int.toNat_natCast, tN_add, tN_add1, tN_sub1, gF_sF, gA_sF, gL_sF, gV_sF, gF_sA, gA_sA, gL_sA, gV_sA, gF_sB, gA_sB, gL_sB, gV_sB, gF_nA, gA_nA, gL_nA, gV_nA, gT_nA, gF_mV, gA_mV, gL_mV, gV_mV, gT_mV, gT_sB, gT_sA, gT_sF, gF_grw, gT_grw, gL_grw, gA_grw, elT, Nat.reduceEqDiff, eq_self, and_self, and_true, true_and, and_false, false_and, reduceIte, faA, qc_14_3, qc_15_2, qc_17_2, sbA, grl]; split <;> omega) | (show 2 * gL _ _ _ ≤ gL _ _ _; simp only [Int.reduceToNat, Int.toNat_natCast, tN_add, tN_add1, tN_sub1, gF_sF, gA_sF, gL_sF, gV_sF, gF_sA, gA_sA, gL_sA, gV_sA, gF_sB, gA_sB, gL_sB, gV_sB, gF_nA, gA_nA, gL_nA, gV_nA, gT_nA, gF_mV, gA_mV, gL_mV, gV_mV, gT_mV, gT_sB, gT_sA, gT_sF, gF_grw, gT_grw, gL_grw, gA_grw, elT, Nat.reduceEqDiff, eq_self, and_self, and_true, true_and, and_false, false_and, reduceIte, faA, qc_14_3, qc_15_2, qc_17_2, sbA]; omega))
  repeat' (first | refine And.intro ?_ ?_ | (with_reducible intro c; try simp only [cmpI, cmpN, Classical.not_not, not_true_eq_false, not_false_eq_true, Int.reduceToNat, Int.toNat_natCast, tN_add, tN_add1, tN_sub1, gF_sF, gA_sF, gL_sF, gV_sF, gF_sA, gA_sA, gL_sA, gV_sA, gF_sB, gA_sB, gL_sB, gV_sB, gF_nA, gA_nA, gL_nA, gV_nA, gT_nA, gF_mV, gA_mV, gL_mV, gV_mV, gT_mV, gT_sB, gT_sA, gT_sF, gF_grw, gT_grw, gL_grw, gA_grw, elT, Nat.reduceEqDiff, eq_self, and_self, and_true, true_and, and_false, false_and, reduceIte, faA, qc_14_3, qc_15_2, qc_17_2, sbA] at c))
  all_goals (try first | exact rfl | exact True.intro | assumption | omega | (simp only [Int.reduceToNat, Int.toNat_natCast, tN_add, tN_add1, tN_sub1, gF_sF, gA_sF, gL_sF, gV_sF, gF_sA, gA_sA, gL_sA, gV_sA, gF_sB, gA_sB, gL_sB, gV_sB, gF_nA, gA_nA, gL_nA, gV_nA, gT_nA, gF_mV, gA_mV, gL_mV, gV_mV, gT_mV, gT_sB, gT_sA, gT_sF, gF_grw, gT_grw, gL_grw, gA_grw, elT, Nat.reduceEqDiff, eq_self, and_self, and_true, true_and, and_false, false_and, reduceIte, faA, qc_14_3, qc_15_2, qc_17_2, sbA]; omega) | (simp only [Int.reduceToNat, Int.toNat_natCast, tN_add, tN_add1, tN_sub1, gF_sF, gA_sF, gL_sF, gV_sF, gF_sA, gA_sA, gL_sA, gV_sA, gF_sB, gA_sB, gL_sB, gV_sB, gF_nA, gA_nA, gL_nA, gV_nA, gT_nA, gF_mV, gA_mV, gL_mV, gV_mV, gT_mV, gT_sB, gT_sA, gT_sF, gF_grw, gT_grw, gL_grw, gA_grw, elT, Nat.reduceEqDiff, eq_self, and_self, and_true, true_and, and_false, false_and, reduceIte, faA, qc_14_3, qc_15_2, qc_17_2, sbA]; done) | (simp only [Int.reduceToNat, Int.toNat_natCast, tN_add, tN_add1, tN_sub1, gF_sF, gA_sF, gL_sF, gV_sF, gF_sA, gA_sA, gL_sA, gV_sA, gF_sB, gA_sB, gL_sB, gV_sB, gF_nA, gA_nA, gL_nA, gV_nA, gT_nA, gF_mV, gA_mV, gL_mV, gV_mV, gT_mV, gT_sB, gT_sA, gT_sF, gF_grw, gT_grw, gL_grw, gA_grw, elT, Nat.reduceEqDiff, eq_self, and_self, and_true, true_and, and_false, false_and, reduceIte, faA, qc_14_3, qc_15_2, qc_17_2, sbA, grl]; split <;> omega) | (show 2 * gL _ _ _ ≤ gL _ _ _; simp only [Int.reduceToNat, Int.toNat_natCast, tN_add, tN_add1, tN_sub1, gF_sF, gA_sF, gL_sF, gV_sF, gF_sA, gA_sA, gL_sA, gV_sA, gF_sB, gA_sB, gL_sB, gV_sB, gF_nA, gA_nA, gL_nA, gV_nA, gT_nA, gF_mV, gA_mV, gL_mV, gV_mV, gT_mV, gT_sB, gT_sA, gT_sF, gF_grw, gT_grw, gL_grw, gA_grw, elT, Nat.reduceEqDiff, eq_self, and_self, and_true, true_and, and_false, false_and, reduceIte, faA, qc_14_3, qc_15_2, qc_17_2, sbA]; omega))
  have e1 : iAnd x ((gL σ 4 4 : Int) - 1) = (((hsh (gL σ 4 4) l + 0) % gL σ 4 4 : Nat) : Int) := by
    rw [hx, and_hsh he3 (by omega), Nat.add_zero, Nat.mod_eq_of_lt (hsh_lt hL0)]
  have e2 := loop (d + 1) 0 (by omega) (by omega)
  rw [← e1] at e2
  exact e2
theorem c_seek5 {k p c : Nat} {ai li : Int} {l : List Int} {NS : List (List Int)} {σ : Sg} {Q : Option AV → Sg → Prop} {E : Int → Sg → Prop} (hk : 3 ≤ k) (hN : NmB σ NS) (hT : NmT σ NS c) (hc : c ≤ NS.length) (hcL : c < gL σ 4 4) (hB : Bt σ 5 p l) (hs : p + l.length ≤ 100000) (ha : ai = (p : Int)) (hl : li = (l.length : Int))
    (hQ : ∀ d, d < gL σ 4 4 → (∀ i, i < d → gA σ 4 4 ((hsh (gL σ 4 4) l + i) % gL σ 4 4) ≠ 0 ∧ ¬ nmT NS ((gA σ 4 4 ((hsh (gL σ 4 4) l + i) % gL σ 4 4)).toNat - 1) = l) → (gA σ 4 4 ((hsh (gL σ 4 4) l + d) % gL σ 4 4) = 0 ∨ (gA σ 4 4 ((hsh (gL σ 4 4) l + d) % gL σ 4 4) ≠ 0 ∧ nmT NS ((gA σ 4 4 ((hsh (gL σ 4 4) l + d) % gL σ 4 4)).toNat - 1) = l)) →
      Q (some (vI (((hsh (gL σ 4 4) l + d) % gL σ 4 4 : Nat) : Int))) σ) : Ct 1 39 k [vO 4, vO 5, vI ai, vI li] σ Q E := by
  subst ha hl
  obtain ⟨e, he1, he2, he3⟩ := hN.2.2.2.2.2.2.2
  have hb9 := hN.2.2.2.2.2.2.1.2
  have hpow : 2 ^ e ≤ 2 ^ 12 := Nat.pow_le_pow_right (by decide) he2
  have hL0 : 0 < gL σ 4 4 := by omega
  obtain ⟨d0, hd0, hz, -⟩ := tb_free hT (fun e => e - 1) (fun e h => by have := h.1; have := h.2; show e - 1 < c; omega) (fun e eₚ h hₚ q => by have := h.1; have := hₚ.1; have q : e - 1 = eₚ - 1 := q; omega) hcL (hsh (gL σ 4 4) l)
  obtain ⟨d, hd1, hd2, hd3⟩ := least (P := fun d => gA σ 4 4 ((hsh (gL σ 4 4) l + d) % gL σ 4 4) = 0 ∨ nmT NS ((gA σ 4 4 ((hsh (gL σ 4 4) l + d) % gL σ 4 4)).toNat - 1) = l) (Or.inl hz)
  have hfin := hQ d (by omega) (fun i hi => ⟨fun q => hd3 i hi (Or.inl q), fun q => hd3 i hi (Or.inr q)⟩) (by
    by_cases q : gA σ 4 4 ((hsh (gL σ 4 4) l + d) % gL σ 4 4) = 0
    · exact Or.inl q
    · rcases hd2 with w | w
      · exact Or.inl w
      · exact Or.inr ⟨q, w⟩)
  have loop : ∀ (m i : Nat), i ≤ d → d - i < m → Jx (mdT 39 [vO 4, vO 5, vI (p : Int), vI (l.length : Int)]) 1 39 k [vO 4, vO 5, vI (p : Int), vI (l.length : Int)] σ Q E 16 [some (vO 4), some (vO 5), some (vI (p : Int)), some (vI (l.length : Int)), some (vI (((hsh (gL σ 4 4) l + i) % gL σ 4 4 : Nat) : Int))] [] σ := by
    intro m
    induction m with
    | zero => intro i _ h; omega
    | succ m ih =>
      intro i hi hm
      have hlt := Nat.mod_lt (hsh (gL σ 4 4) l + i) hL0
      have hid : ∀ P : Prop, (gA σ 4 4 ((hsh (gL σ 4 4) l + i) % gL σ 4 4) = 0 ∨ nmT NS ((gA σ 4 4 ((hsh (gL σ 4 4) l + i) % gL σ 4 4)).toNat - 1) = l) → (i = d → P) → P := fun P q f => by
        rcases Nat.lt_or_ge i d with w | w
        · exact absurd q (hd3 i w)
        · exact f (by omega)
      refine jx_seg (il := (fun _ => false)) (mc := true) (fun _ => grow_ok) 60 [16] (by decide) rfl ?_
      repeat' (first | refine And.intro ?_ ?_ | (with_reducible intro c; try simp only [cmpI, cmpN, Classical.not_not, not_true_eq_false, not_false_eq_true, Int.reduceToNat, Int.toNat_natCast, tN_add, tN_add1, tN_sub1, gF_sF, gA_sF, gL_sF, gV_sF, gF_sA, gA_sA, gL_sA, gV_sA, gF_sB, gA_sB, gL_sB, gV_sB, gF_nA, gA_nA, gL_nA, gV_nA, gT_nA, gF_mV, gA_mV, gL_mV, gV_mV, gT_mV, gT_sB, gT_sA, gT_sF, gF_grw, gT_grw, gL_grw, gA_grw, elT, Nat.reduceEqDiff, eq_self, and_self, and_true, true_and, and_false, false_and, reduceIte, faA, qc_14_3, qc_15_2, qc_17_2, sbA] at c))
      all_goals (try first | exact rfl | exact True.intro | assumption | omega | (simp only [Int.reduceToNat, Int.toNat_natCast, tN_add, tN_add1, tN_sub1, gF_sF, gA_sF, gL_sF, gV_sF, gF_sA, gA_sA, gL_sA, gV_sA, gF_sB, gA_sB, gL_sB, gV_sB, gF_nA, gA_nA, gL_nA, gV_nA, gT_nA, gF_mV, gA_mV, gL_mV, gV_mV, gT_mV, gT_sB, gT_sA, gT_sF, gF_grw, gT_grw, gL_grw, gA_grw, elT, Nat.reduceEqDiff, eq_self, and_self, and_true, true_and, and_false, false_and, reduceIte, faA, qc_14_3, qc_15_2, qc_17_2, sbA]; omega) | (simp only [Int.reduceToNat, Int.toNat_natCast, tN_add, tN_add1, tN_sub1, gF_sF, gA_sF, gL_sF, gV_sF, gF_sA, gA_sA, gL_sA, gV_sA, gF_sB, gA_sB, gL_sB, gV_sB, gF_nA, gA_nA, gL_nA, gV_nA, gT_nA, gF_mV, gA_mV, gL_mV, gV_mV, gT_mV, gT_sB, gT_sA, gT_sF, gF_grw, gT_grw, gL_grw, gA_grw, elT, Nat.reduceEqDiff, eq_self, and_self, and_true, true_and, and_false, false_and, reduceIte, faA, qc_14_3, qc_15_2, qc_17_2, sbA]; done) | (simp only [Int.reduceToNat, Int.toNat_natCast, tN_add, tN_add1, tN_sub1, gF_sF, gA_sF, gL_sF, gV_sF, gF_sA, gA_sA, gL_sA, gV_sA, gF_sB, gA_sB, gL_sB, gV_sB, gF_nA, gA_nA, gL_nA, gV_nA, gT_nA, gF_mV, gA_mV, gL_mV, gV_mV, gT_mV, gT_sB, gT_sA, gT_sF, gF_grw, gT_grw, gL_grw, gA_grw, elT, Nat.reduceEqDiff, eq_self, and_self, and_true, true_and, and_false, false_and, reduceIte, faA, qc_14_3, qc_15_2, qc_17_2, sbA, grl]; split <;> omega) | (show 2 * gL _ _ _ ≤ gL _ _ _; simp only [Int.reduceToNat, Int.toNat_natCast, tN_add, tN_add1, tN_sub1, gF_sF, gA_sF, gL_sF, gV_sF, gF_sA, gA_sA, gL_sA, gV_sA, gF_sB, gA_sB, gL_sB, gV_sB, gF_nA, gA_nA, gL_nA, gV_nA, gT_nA, gF_mV, gA_mV, gL_mV, gV_mV, gT_mV, gT_sB, gT_sA, gT_sF, gF_grw, gT_grw, gL_grw, gA_grw, elT, Nat.reduceEqDiff, eq_self, and_self, and_true, true_and, and_false, false_and, reduceIte, faA, qc_14_3, qc_15_2, qc_17_2, sbA]; omega))
      · exact hid _ (Or.inl c) (fun q => by rw [q]; exact hfin)
      · have hp := tb_pos hT hlt (by assumption)
        have hp2 := hp.2.2
        simp only [Int.reduceToNat, Int.toNat_natCast, tN_add, tN_add1, tN_sub1, gF_sF, gA_sF, gL_sF, gV_sF, gF_sA, gA_sA, gL_sA, gV_sA, gF_sB, gA_sB, gL_sB, gV_sB, gF_nA, gA_nA, gL_nA, gV_nA, gT_nA, gF_mV, gA_mV, gL_mV, gV_mV, gT_mV, gT_sB, gT_sA, gT_sF, gF_grw, gT_grw, gL_grw, gA_grw, elT, Nat.reduceEqDiff, eq_self, and_self, and_true, true_and, and_false, false_and, reduceIte, faA, qc_14_3, qc_15_2, qc_17_2, sbA]; omega
      · have hp := tb_pos hT hlt (by assumption)
        have hp2 := hp.2.2
        simp only [Int.reduceToNat, Int.toNat_natCast, tN_add, tN_add1, tN_sub1, gF_sF, gA_sF, gL_sF, gV_sF, gF_sA, gA_sA, gL_sA, gV_sA, gF_sB, gA_sB, gL_sB, gV_sB, gF_nA, gA_nA, gL_nA, gV_nA, gT_nA, gF_mV, gA_mV, gL_mV, gV_mV, gT_mV, gT_sB, gT_sA, gT_sF, gF_grw, gT_grw, gL_grw, gA_grw, elT, Nat.reduceEqDiff, eq_self, and_self, and_true, true_and, and_false, false_and, reduceIte, faA, qc_14_3, qc_15_2, qc_17_2, sbA]; omega
      · have hp := tb_pos hT hlt (by assumption)
        have hp2 := hp.2.2
        refine c_is5 (n := (gA σ 4 4 ((hsh (gL σ 4 4) l + i) % gL σ 4 4)).toNat - 1) ?_ hN ?_ hB hs ?_ rfl rfl (fun x hx => ?_)
        all_goals (try first | exact rfl | exact True.intro | assumption | omega | (simp only [Int.reduceToNat, Int.toNat_natCast, tN_add, tN_add1, tN_sub1, gF_sF, gA_sF, gL_sF, gV_sF, gF_sA, gA_sA, gL_sA, gV_sA, gF_sB, gA_sB, gL_sB, gV_sB, gF_nA, gA_nA, gL_nA, gV_nA, gT_nA, gF_mV, gA_mV, gL_mV, gV_mV, gT_mV, gT_sB, gT_sA, gT_sF, gF_grw, gT_grw, gL_grw, gA_grw, elT, Nat.reduceEqDiff, eq_self, and_self, and_true, true_and, and_false, false_and, reduceIte, faA, qc_14_3, qc_15_2, qc_17_2, sbA]; omega) | (simp only [Int.reduceToNat, Int.toNat_natCast, tN_add, tN_add1, tN_sub1, gF_sF, gA_sF, gL_sF, gV_sF, gF_sA, gA_sA, gL_sA, gV_sA, gF_sB, gA_sB, gL_sB, gV_sB, gF_nA, gA_nA, gL_nA, gV_nA, gT_nA, gF_mV, gA_mV, gL_mV, gV_mV, gT_mV, gT_sB, gT_sA, gT_sF, gF_grw, gT_grw, gL_grw, gA_grw, elT, Nat.reduceEqDiff, eq_self, and_self, and_true, true_and, and_false, false_and, reduceIte, faA, qc_14_3, qc_15_2, qc_17_2, sbA]; done) | (simp only [Int.reduceToNat, Int.toNat_natCast, tN_add, tN_add1, tN_sub1, gF_sF, gA_sF, gL_sF, gV_sF, gF_sA, gA_sA, gL_sA, gV_sA, gF_sB, gA_sB, gL_sB, gV_sB, gF_nA, gA_nA, gL_nA, gV_nA, gT_nA, gF_mV, gA_mV, gL_mV, gV_mV, gT_mV, gT_sB, gT_sA, gT_sF, gF_grw, gT_grw, gL_grw, gA_grw, elT, Nat.reduceEqDiff, eq_self, and_self, and_true, true_and, and_false, false_and, reduceIte, faA, qc_14_3, qc_15_2, qc_17_2, sbA, grl]; split <;> omega) | (show 2 * gL _ _ _ ≤ gL _ _ _; simp only [Int.reduceToNat, Int.toNat_natCast, tN_add, tN_add1, tN_sub1, gF_sF, gA_sF, gL_sF, gV_sF, gF_sA, gA_sA, gL_sA, gV_sA, gF_sB, gA_sB, gL_sB, gV_sB, gF_nA, gA_nA, gL_nA, gV_nA, gT_nA, gF_mV, gA_mV, gL_mV, gV_mV, gT_mV, gT_sB, gT_sA, gT_sF, gF_grw, gT_grw, gL_grw, gA_grw, elT, Nat.reduceEqDiff, eq_self, and_self, and_true, true_and, and_false, false_and, reduceIte, faA, qc_14_3, qc_15_2, qc_17_2, sbA]; omega))
        repeat' (first | refine And.intro ?_ ?_ | (with_reducible intro c; try simp only [cmpI, cmpN, Classical.not_not, not_true_eq_false, not_false_eq_true, Int.reduceToNat, Int.toNat_natCast, tN_add, tN_add1, tN_sub1, gF_sF, gA_sF, gL_sF, gV_sF, gF_sA, gA_sA, gL_sA, gV_sA, gF_sB, gA_sB, gL_sB, gV_sB, gF_nA, gA_nA, gL_nA, gV_nA, gT_nA, gF_mV, gA_mV, gL_mV, gV_mV, gT_mV, gT_sB, gT_sA, gT_sF, gF_grw, gT_grw, gL_grw, gA_grw, elT, Nat.reduceEqDiff, eq_self, and_self, and_true, true_and, and_false, false_and, reduceIte, faA, qc_14_3, qc_15_2, qc_17_2, sbA] at c))
        all_goals (try first | exact rfl | exact True.intro | assumption | omega | (simp only [Int.reduceToNat, Int.toNat_natCast, tN_add, tN_add1, tN_sub1, gF_sF, gA_sF, gL_sF, gV_sF, gF_sA, gA_sA, gL_sA, gV_sA, gF_sB, gA_sB, gL_sB, gV_sB, gF_nA, gA_nA, gL_nA, gV_nA, gT_nA, gF_mV, gA_mV, gL_mV, gV_mV, gT_mV, gT_sB, gT_sA, gT_sF, gF_grw, gT_grw, gL_grw, gA_grw, elT, Nat.reduceEqDiff, eq_self, and_self, and_true, true_and, and_false, false_and, reduceIte, faA, qc_14_3, qc_15_2, qc_17_2, sbA]; omega) | (simp only [Int.reduceToNat, Int.toNat_natCast, tN_add, tN_add1, tN_sub1, gF_sF, gA_sF, gL_sF, gV_sF, gF_sA, gA_sA, gL_sA, gV_sA, gF_sB, gA_sB, gL_sB, gV_sB, gF_nA, gA_nA, gL_nA, gV_nA, gT_nA, gF_mV, gA_mV, gL_mV, gV_mV, gT_mV, gT_sB, gT_sA, gT_sF, gF_grw, gT_grw, gL_grw, gA_grw, elT, Nat.reduceEqDiff, eq_self, and_self, and_true, true_and, and_false, false_and, reduceIte, faA, qc_14_3, qc_15_2, qc_17_2, sbA]; done) | (simp only [Int.reduceToNat, Int.toNat_natCast, tN_add, tN_add1, tN_sub1, gF_sF, gA_sF, gL_sF, gV_sF, gF_sA, gA_sA, gL_sA, gV_sA, gF_sB, gA_sB, gL_sB, gV_sB, gF_nA, gA_nA, gL_nA, gV_nA, gT_nA, gF_mV, gA_mV, gL_mV, gV_mV, gT_mV, gT_sB, gT_sA, gT_sF, gF_grw, gT_grw, gL_grw, gA_grw, elT, Nat.reduceEqDiff, eq_self, and_self, and_true, true_and, and_false, false_and, reduceIte, faA, qc_14_3, qc_15_2, qc_17_2, sbA, grl]; split <;> omega) | (show 2 * gL _ _ _ ≤ gL _ _ _; simp only [Int.reduceToNat, Int.toNat_natCast, tN_add, tN_add1, tN_sub1, gF_sF, gA_sF, gL_sF, gV_sF, gF_sA, gA_sA, gL_sA, gV_sA, gF_sB, gA_sB, gL_sB, gV_sB, gF_nA, gA_nA, gL_nA, gV_nA, gT_nA, gF_mV, gA_mV, gL_mV, gV_mV, gT_mV, gT_sB, gT_sA, gT_sF, gF_grw, gT_grw, gL_grw, gA_grw, elT, Nat.reduceEqDiff, eq_self, and_self, and_true, true_and, and_false, false_and, reduceIte, faA, qc_14_3, qc_15_2, qc_17_2, sbA]; omega))
        · refine hid _ (Or.inr ?_) (fun q => by rw [q]; exact hfin)
          by_cases w : nmT NS ((gA σ 4 4 ((hsh (gL σ 4 4) l + i) % gL σ 4 4)).toNat - 1) = l
          · exact w
          · rw [if_neg w] at hx; omega
        · have hne : i ≠ d := fun q => by
            subst q
            rcases hd2 with w | w
            · contradiction
            · rw [if_pos w] at hx; omega
          have e1 : iAnd ((((hsh (gL σ 4 4) l + i) % gL σ 4 4 : Nat) : Int) + 1) ((gL σ 4 4 : Int) - 1) = (((hsh (gL σ 4 4) l + (i + 1)) % gL σ 4 4 : Nat) : Int) := by
            have := and_slot (a := (hsh (gL σ 4 4) l + i) % gL σ 4 4 + 1) he3 (by omega)
            rw [Nat.mod_add_mod] at this
            exact this
          have e2 := ih (i + 1) (by omega) (by omega)
          rw [← e1] at e2
          exact e2
  refine ct_seg (il := (fun _ => false)) (mc := true) (fun _ => grow_ok) 60 [16] (by decide) (Nat.le_of_ble_eq_true rfl) ?_
  repeat' (first | refine And.intro ?_ ?_ | (with_reducible intro c; try simp only [cmpI, cmpN, Classical.not_not, not_true_eq_false, not_false_eq_true, Int.reduceToNat, Int.toNat_natCast, tN_add, tN_add1, tN_sub1, gF_sF, gA_sF, gL_sF, gV_sF, gF_sA, gA_sA, gL_sA, gV_sA, gF_sB, gA_sB, gL_sB, gV_sB, gF_nA, gA_nA, gL_nA, gV_nA, gT_nA, gF_mV, gA_mV, gL_mV, gV_mV, gT_mV, gT_sB, gT_sA, gT_sF, gF_grw, gT_grw, gL_grw, gA_grw, elT, Nat.reduceEqDiff, eq_self, and_self, and_true, true_and, and_false, false_and, reduceIte, faA, qc_14_3, qc_15_2, qc_17_2, sbA] at c))
  all_goals (try first | exact rfl | exact True.intro | assumption | omega | (simp only [Int.reduceToNat, Int.toNat_natCast, tN_add, tN_add1, tN_sub1, gF_sF, gA_sF, gL_sF, gV_sF, gF_sA, gA_sA, gL_sA, gV_sA, gF_sB, gA_sB, gL_sB, gV_sB, gF_nA, gA_nA, gL_nA, gV_nA, gT_nA, gF_mV, gA_mV, gL_mV, gV_mV, gT_mV, gT_sB, gT_sA, gT_sF, gF_grw, gT_grw, gL_grw, gA_grw, elT, Nat.reduceEqDiff, eq_self, and_self, and_true, true_and, and_false, false_and, reduceIte, faA, qc_14_3, qc_15_2, qc_17_2, sbA]; omega) | (simp only [Int.reduceToNat, Int.toNat_natCast, tN_add, tN_add1, tN_sub1, gF_sF, gA_sF, gL_sF, gV_sF, gF_sA, gA_sA, gL_sA, gV_sA, gF_sB, gA_sB, gL_sB, gV_sB, gF_nA, gA_nA, gL_nA, gV_nA, gT_nA, gF_mV, gA_mV, gL_mV, gV_mV, gT_mV, gT_sB, gT_sA, gT_sF, gF_grw, gT_grw, gL_grw, gA_grw, elT, Nat.reduceEqDiff, eq_self, and_self, and_true, true_and, and_false, false_and, reduceIte, faA, qc_14_3, qc_15_2, qc_17_2, sbA]; done) | (simp only [Int.reduceToNat, Int.toNat_natCast, tN_add, tN_add1, tN_sub1, gF_sF, gA_sF, gL_sF, gV_sF, gF_sA, gA_sA, gL_sA, gV_sA, gF_sB, gA_sB, gL_sB, gV_sB, gF_nA, gA_nA, gL_nA, gV_nA, gT_nA, gF_mV, gA_mV, gL_mV, gV_mV, gT_mV, gT_sB, gT_sA, gT_sF, gF_grw, gT_grw, gL_grw, gA_grw, elT, Nat.reduceEqDiff, eq_self, and_self, and_true, true_and, and_false, false_and, reduceIte, faA, qc_14_3, qc_15_2, qc_17_2, sbA, grl]; split <;> omega) | (show 2 * gL _ _ _ ≤ gL _ _ _; simp only [Int.reduceToNat, Int.toNat_natCast, tN_add, tN_add1, tN_sub1, gF_sF, gA_sF, gL_sF, gV_sF, gF_sA, gA_sA, gL_sA, gV_sA, gF_sB, gA_sB, gL_sB, gV_sB, gF_nA, gA_nA, gL_nA, gV_nA, gT_nA, gF_mV, gA_mV, gL_mV, gV_mV, gT_mV, gT_sB, gT_sA, gT_sF, gF_grw, gT_grw, gL_grw, gA_grw, elT, Nat.reduceEqDiff, eq_self, and_self, and_true, true_and, and_false, false_and, reduceIte, faA, qc_14_3, qc_15_2, qc_17_2, sbA]; omega))
  refine c_mix5 ?_ hB hs rfl rfl (fun x hx => ?_)
  all_goals (try first | exact rfl | exact True.intro | assumption | omega | (simp only [Int.reduceToNat, Int.toNat_natCast, tN_add, tN_add1, tN_sub1, gF_sF, gA_sF, gL_sF, gV_sF, gF_sA, gA_sA, gL_sA, gV_sA, gF_sB, gA_sB, gL_sB, gV_sB, gF_nA, gA_nA, gL_nA, gV_nA, gT_nA, gF_mV, gA_mV, gL_mV, gV_mV, gT_mV, gT_sB, gT_sA, gT_sF, gF_grw, gT_grw, gL_grw, gA_grw, elT, Nat.reduceEqDiff, eq_self, and_self, and_true, true_and, and_false, false_and, reduceIte, faA, qc_14_3, qc_15_2, qc_17_2, sbA]; omega) | (simp only [Int.reduceToNat, Int.toNat_natCast, tN_add, tN_add1, tN_sub1, gF_sF, gA_sF, gL_sF, gV_sF, gF_sA, gA_sA, gL_sA, gV_sA, gF_sB, gA_sB, gL_sB, gV_sB, gF_nA, gA_nA, gL_nA, gV_nA, gT_nA, gF_mV, gA_mV, gL_mV, gV_mV, gT_mV, gT_sB, gT_sA, gT_sF, gF_grw, gT_grw, gL_grw, gA_grw, elT, Nat.reduceEqDiff, eq_self, and_self, and_true, true_and, and_false, false_and, reduceIte, faA, qc_14_3, qc_15_2, qc_17_2, sbA]; done) | (simp only [Int.reduceToNat, Int.toNat_natCast, tN_add, tN_add1, tN_sub1, gF_sF, gA_sF, gL_sF, gV_sF, gF_sA, gA_sA, gL_sA, gV_sA, gF_sB, gA_sB, gL_sB, gV_sB, gF_nA, gA_nA, gL_nA, gV_nA, gT_nA, gF_mV, gA_mV, gL_mV, gV_mV, gT_mV, gT_sB, gT_sA, gT_sF, gF_grw, gT_grw, gL_grw, gA_grw, elT, Nat.reduceEqDiff, eq_self, and_self, and_true, true_and, and_false, false_and, reduceIte, faA, qc_14_3, qc_15_2, qc_17_2, sbA, grl]; split <;> omega) | (show 2 * gL _ _ _ ≤ gL _ _ _; simp only [Int.reduceToNat, Int.toNat_natCast, tN_add, tN_add1, tN_sub1, gF_sF, gA_sF, gL_sF, gV_sF, gF_sA, gA_sA, gL_sA, gV_sA, gF_sB, gA_sB, gL_sB, gV_sB, gF_nA, gA_nA, gL_nA, gV_nA, gT_nA, gF_mV, gA_mV, gL_mV, gV_mV, gT_mV, gT_sB, gT_sA, gT_sF, gF_grw, gT_grw, gL_grw, gA_grw, elT, Nat.reduceEqDiff, eq_self, and_self, and_true, true_and, and_false, false_and, reduceIte, faA, qc_14_3, qc_15_2, qc_17_2, sbA]; omega))
  repeat' (first | refine And.intro ?_ ?_ | (with_reducible intro c; try simp only [cmpI, cmpN, Classical.not_not, not_true_eq_false, not_false_eq_true, Int.reduceToNat, Int.toNat_natCast, tN_add, tN_add1, tN_sub1, gF_sF, gA_sF, gL_sF, gV_sF, gF_sA, gA_sA, gL_sA, gV_sA, gF_sB, gA_sB, gL_sB, gV_sB, gF_nA, gA_nA, gL_nA, gV_nA, gT_nA, gF_mV, gA_mV, gL_mV, gV_mV, gT_mV, gT_sB, gT_sA, gT_sF, gF_grw, gT_grw, gL_grw, gA_grw, elT, Nat.reduceEqDiff, eq_self, and_self, and_true, true_and, and_false, false_and, reduceIte, faA, qc_14_3, qc_15_2, qc_17_2, sbA] at c))
  all_goals (try first | exact rfl | exact True.intro | assumption | omega | (simp only [Int.reduceToNat, Int.toNat_natCast, tN_add, tN_add1, tN_sub1, gF_sF, gA_sF, gL_sF, gV_sF, gF_sA, gA_sA, gL_sA, gV_sA, gF_sB, gA_sB, gL_sB, gV_sB, gF_nA, gA_nA, gL_nA, gV_nA, gT_nA, gF_mV, gA_mV, gL_mV, gV_mV, gT_mV, gT_sB, gT_sA, gT_sF, gF_grw, gT_grw, gL_grw, gA_grw, elT, Nat.reduceEqDiff, eq_self, and_self, and_true, true_and, and_false, false_and, reduceIte, faA, qc_14_3, qc_15_2, qc_17_2, sbA]; omega) | (simp only [Int.reduceToNat, Int.toNat_natCast, tN_add, tN_add1, tN_sub1, gF_sF, gA_sF, gL_sF, gV_sF, gF_sA, gA_sA, gL_sA, gV_sA, gF_sB, gA_sB, gL_sB, gV_sB, gF_nA, gA_nA, gL_nA, gV_nA, gT_nA, gF_mV, gA_mV, gL_mV, gV_mV, gT_mV, gT_sB, gT_sA, gT_sF, gF_grw, gT_grw, gL_grw, gA_grw, elT, Nat.reduceEqDiff, eq_self, and_self, and_true, true_and, and_false, false_and, reduceIte, faA, qc_14_3, qc_15_2, qc_17_2, sbA]; done) | (simp only [Int.reduceToNat, Int.toNat_natCast, tN_add, tN_add1, tN_sub1, gF_sF, gA_sF, gL_sF, gV_sF, gF_sA, gA_sA, gL_sA, gV_sA, gF_sB, gA_sB, gL_sB, gV_sB, gF_nA, gA_nA, gL_nA, gV_nA, gT_nA, gF_mV, gA_mV, gL_mV, gV_mV, gT_mV, gT_sB, gT_sA, gT_sF, gF_grw, gT_grw, gL_grw, gA_grw, elT, Nat.reduceEqDiff, eq_self, and_self, and_true, true_and, and_false, false_and, reduceIte, faA, qc_14_3, qc_15_2, qc_17_2, sbA, grl]; split <;> omega) | (show 2 * gL _ _ _ ≤ gL _ _ _; simp only [Int.reduceToNat, Int.toNat_natCast, tN_add, tN_add1, tN_sub1, gF_sF, gA_sF, gL_sF, gV_sF, gF_sA, gA_sA, gL_sA, gV_sA, gF_sB, gA_sB, gL_sB, gV_sB, gF_nA, gA_nA, gL_nA, gV_nA, gT_nA, gF_mV, gA_mV, gL_mV, gV_mV, gT_mV, gT_sB, gT_sA, gT_sF, gF_grw, gT_grw, gL_grw, gA_grw, elT, Nat.reduceEqDiff, eq_self, and_self, and_true, true_and, and_false, false_and, reduceIte, faA, qc_14_3, qc_15_2, qc_17_2, sbA]; omega))
  have e1 : iAnd x ((gL σ 4 4 : Int) - 1) = (((hsh (gL σ 4 4) l + 0) % gL σ 4 4 : Nat) : Int) := by
    rw [hx, and_hsh he3 (by omega), Nat.add_zero, Nat.mod_eq_of_lt (hsh_lt hL0)]
  have e2 := loop (d + 1) 0 (by omega) (by omega)
  rw [← e1] at e2
  exact e2
theorem nm_inj {NS : List (List Int)} (h : NS.Nodup) {a b : Nat} (ha : a < NS.length) (hb : b < NS.length) (e : nmT NS a = nmT NS b) : a = b := by
  unfold nmT at e
  rw [List.getD_eq_getElem?_getD, List.getD_eq_getElem?_getD, List.getElem?_eq_getElem ha, List.getElem?_eq_getElem hb] at e
  have e : NS[a] = NS[b] := e
  have hp := List.pairwise_iff_getElem.mp h
  rcases Nat.lt_trichotomy a b with c | c | c
  · exact absurd e (hp a b ha hb c)
  · exact c
  · exact absurd e.symm (hp b a hb ha c)
end
section
/-! Tokens: object 15 -/
set_option maxRecDepth 100000
/-- what a throw's cell is counted from lies behind the bytes -/
def cC (X : Tx) : Nat := (X.1 3000).toNat
def cD (X : Tx) : Nat := (X.1 3001).toNat
def TkS (σ : Sg) (X : Tx) : Prop := (gF σ 15 2 = 2 ∧ gF σ 15 3 = (X.2 : Int) ∧ (X.2 ≤ 1280 ∧ gC σ = cC X ∧ gD σ = cD X)) ∧ (X.2 ≤ gL σ 2 1 ∧ ∀ i, i < X.2 → gA σ 2 1 i % 256 = X.1 i) ∧ (gL σ 15 1 = 52 ∧ ∀ i : Nat, i < 52 → gA σ 15 1 i = -(i : Int) - 1)
theorem c_look {k n : Nat} {i : Int} {X : Tx} {σ : Sg} {Q : Option AV → Sg → Prop} {E : Int → Sg → Prop} (hk : 1 ≤ k) (hS : TkS σ X) (hi : i = (n : Int)) (hQ : ∀ x, x = lk X n → Q (some (vI x)) σ) : Ct 1 88 k [vO 15, vI i] σ Q E := by
  subst hi
  obtain ⟨⟨s1, s2, s3⟩, ⟨s4, s5⟩, -⟩ := hS
  refine ct_seg (il := (fun _ => false)) (mc := true) (fun _ => grow_ok) 40 [] (by decide) (Nat.le_of_ble_eq_true rfl) ?_
  repeat' (first | refine And.intro ?_ ?_ | (with_reducible intro c; try simp only [cmpI, cmpN, Classical.not_not, not_true_eq_false, not_false_eq_true, Int.reduceToNat, Int.toNat_natCast, tN_add, tN_add1, tN_sub1, gF_sF, gA_sF, gL_sF, gV_sF, gF_sA, gA_sA, gL_sA, gV_sA, gF_sB, gA_sB, gL_sB, gV_sB, gF_nA, gA_nA, gL_nA, gV_nA, gT_nA, gF_mV, gA_mV, gL_mV, gV_mV, gT_mV, gT_sB, gT_sA, gT_sF, gF_grw, gT_grw, gL_grw, gA_grw, elT, Nat.reduceEqDiff, eq_self, and_self, and_true, true_and, and_false, false_and, reduceIte, faA, qc_14_3, qc_15_2, qc_17_2, sbA] at c))
  all_goals (try first | exact rfl | exact True.intro | assumption | omega | (simp only [Int.reduceToNat, Int.toNat_natCast, tN_add, tN_add1, tN_sub1, gF_sF, gA_sF, gL_sF, gV_sF, gF_sA, gA_sA, gL_sA, gV_sA, gF_sB, gA_sB, gL_sB, gV_sB, gF_nA, gA_nA, gL_nA, gV_nA, gT_nA, gF_mV, gA_mV, gL_mV, gV_mV, gT_mV, gT_sB, gT_sA, gT_sF, gF_grw, gT_grw, gL_grw, gA_grw, elT, Nat.reduceEqDiff, eq_self, and_self, and_true, true_and, and_false, false_and, reduceIte, faA, qc_14_3, qc_15_2, qc_17_2, sbA]; omega) | (simp only [Int.reduceToNat, Int.toNat_natCast, tN_add, tN_add1, tN_sub1, gF_sF, gA_sF, gL_sF, gV_sF, gF_sA, gA_sA, gL_sA, gV_sA, gF_sB, gA_sB, gL_sB, gV_sB, gF_nA, gA_nA, gL_nA, gV_nA, gT_nA, gF_mV, gA_mV, gL_mV, gV_mV, gT_mV, gT_sB, gT_sA, gT_sF, gF_grw, gT_grw, gL_grw, gA_grw, elT, Nat.reduceEqDiff, eq_self, and_self, and_true, true_and, and_false, false_and, reduceIte, faA, qc_14_3, qc_15_2, qc_17_2, sbA]; done) | (simp only [Int.reduceToNat, Int.toNat_natCast, tN_add, tN_add1, tN_sub1, gF_sF, gA_sF, gL_sF, gV_sF, gF_sA, gA_sA, gL_sA, gV_sA, gF_sB, gA_sB, gL_sB, gV_sB, gF_nA, gA_nA, gL_nA, gV_nA, gT_nA, gF_mV, gA_mV, gL_mV, gV_mV, gT_mV, gT_sB, gT_sA, gT_sF, gF_grw, gT_grw, gL_grw, gA_grw, elT, Nat.reduceEqDiff, eq_self, and_self, and_true, true_and, and_false, false_and, reduceIte, faA, qc_14_3, qc_15_2, qc_17_2, sbA, grl]; split <;> omega) | (show 2 * gL _ _ _ ≤ gL _ _ _; simp only [Int.reduceToNat, Int.toNat_natCast, tN_add, tN_add1, tN_sub1, gF_sF, gA_sF, gL_sF, gV_sF, gF_sA, gA_sA, gL_sA, gV_sA, gF_sB, gA_sB, gL_sB, gV_sB, gF_nA, gA_nA, gL_nA, gV_nA, gT_nA, gF_mV, gA_mV, gL_mV, gV_mV, gT_mV, gT_sB, gT_sA, gT_sF, gF_grw, gT_grw, gL_grw, gA_grw, elT, Nat.reduceEqDiff, eq_self, and_self, and_true, true_and, and_false, false_and, reduceIte, faA, qc_14_3, qc_15_2, qc_17_2, sbA]; omega))
  · exact hQ _ (by unfold lk; rw [if_neg (by omega)])
  · refine c_get2 ?_ ?_ (fun x hx => ?_)
    · omega
    · omega
    exact hQ _ (by unfold lk; rw [if_pos (by omega), hx]; exact s5 n (by omega))
theorem c_begins {k : Nat} {c : Int} {σ : Sg} {Q : Option AV → Sg → Prop} {E : Int → Sg → Prop} (hQ : ∀ x, x = (if isLt c then (1 : Int) else 0) → Q (some (vI x)) σ) : Ct 1 89 k [vI c] σ Q E := by
  refine ct_seg (il := (fun _ => false)) (mc := true) (fun _ => grow_ok) 40 [] (by decide) (Nat.le_of_ble_eq_true rfl) ?_
  repeat' (first | refine And.intro ?_ ?_ | (with_reducible intro c; try simp only [cmpI, cmpN, Classical.not_not, not_true_eq_false, not_false_eq_true, Int.reduceToNat, Int.toNat_natCast, tN_add, tN_add1, tN_sub1, gF_sF, gA_sF, gL_sF, gV_sF, gF_sA, gA_sA, gL_sA, gV_sA, gF_sB, gA_sB, gL_sB, gV_sB, gF_nA, gA_nA, gL_nA, gV_nA, gT_nA, gF_mV, gA_mV, gL_mV, gV_mV, gT_mV, gT_sB, gT_sA, gT_sF, gF_grw, gT_grw, gL_grw, gA_grw, elT, Nat.reduceEqDiff, eq_self, and_self, and_true, true_and, and_false, false_and, reduceIte, faA, qc_14_3, qc_15_2, qc_17_2, sbA] at c))
  all_goals (try omega)
  all_goals (refine hQ _ ?_)
  all_goals (split <;> omega)
theorem c_digit {k : Nat} {c : Int} {σ : Sg} {Q : Option AV → Sg → Prop} {E : Int → Sg → Prop} (hQ : ∀ x, x = (if isDg c then (1 : Int) else 0) → Q (some (vI x)) σ) : Ct 1 90 k [vI c] σ Q E := by
  refine ct_seg (il := (fun _ => false)) (mc := true) (fun _ => grow_ok) 40 [] (by decide) (Nat.le_of_ble_eq_true rfl) ?_
  repeat' (first | refine And.intro ?_ ?_ | (with_reducible intro c; try simp only [cmpI, cmpN, Classical.not_not, not_true_eq_false, not_false_eq_true, Int.reduceToNat, Int.toNat_natCast, tN_add, tN_add1, tN_sub1, gF_sF, gA_sF, gL_sF, gV_sF, gF_sA, gA_sA, gL_sA, gV_sA, gF_sB, gA_sB, gL_sB, gV_sB, gF_nA, gA_nA, gL_nA, gV_nA, gT_nA, gF_mV, gA_mV, gL_mV, gV_mV, gT_mV, gT_sB, gT_sA, gT_sF, gF_grw, gT_grw, gL_grw, gA_grw, elT, Nat.reduceEqDiff, eq_self, and_self, and_true, true_and, and_false, false_and, reduceIte, faA, qc_14_3, qc_15_2, qc_17_2, sbA] at c))
  all_goals (try omega)
  all_goals (refine hQ _ ?_)
  all_goals (split <;> omega)
theorem c_blanks {k i0 : Nat} {X : Tx} {σ : Sg} {Q : Option AV → Sg → Prop} {E : Int → Sg → Prop} (hk : 2 ≤ k) (hS : TkS σ X) (h4 : gF σ 15 4 = (i0 : Int)) (hi0 : i0 ≤ X.2) (hQ : ∀ σₚ, Fr (mdT 87 [vO 15]) σ σₚ → gF σₚ 15 4 = (bl X i0 : Int) → Q none σₚ) : Ct 1 87 k [vO 15] σ Q E := by
  refine ct_cp (P := fun r σₚ => r = none ∧ gF σₚ 15 4 = (bl X i0 : Int)) (fun Qₚ Eₚ hQₚ => ?_) (fun r σₚ f q => by obtain ⟨rfl, q⟩ := q; exact hQ σₚ f q)
  have inner : ∀ (n i : Nat) (σ1 : Sg) (y : Int), X.2 - i < n → i ≤ X.2 → TkS σ1 X → gF σ1 15 4 = (i : Int) → (∀ σ2, TkS σ2 X → gF σ2 15 4 = (lnE X i : Int) → Jx (mdT 87 [vO 15]) 1 87 k [vO 15] σ Qₚ Eₚ 2 [some (vO 15), some (vI 1), some (vI y)] [] σ2) → Jx (mdT 87 [vO 15]) 1 87 k [vO 15] σ Qₚ Eₚ 84 [some (vO 15), some (vI 1), some (vI y)] [] σ1 := by
    intro n
    induction n with
    | zero => intro i σ1 c hn; omega
    | succ n ih =>
      intro i σ1 y hn hi hT h4 hc
      have s2 := hT.1.2.1
      have s3 := hT.1.2.2
      refine jx_seg (il := (fun _ => false)) (mc := true) (fun _ => grow_ok) 60 [2, 84] (by decide) rfl ?_
      repeat' (first | refine And.intro ?_ ?_ | (with_reducible intro c; try simp only [cmpI, cmpN, Classical.not_not, not_true_eq_false, not_false_eq_true, Int.reduceToNat, Int.toNat_natCast, tN_add, tN_add1, tN_sub1, gF_sF, gA_sF, gL_sF, gV_sF, gF_sA, gA_sA, gL_sA, gV_sA, gF_sB, gA_sB, gL_sB, gV_sB, gF_nA, gA_nA, gL_nA, gV_nA, gT_nA, gF_mV, gA_mV, gL_mV, gV_mV, gT_mV, gT_sB, gT_sA, gT_sF, gF_grw, gT_grw, gL_grw, gA_grw, elT, Nat.reduceEqDiff, eq_self, and_self, and_true, true_and, and_false, false_and, reduceIte, faA, qc_14_3, qc_15_2, qc_17_2, sbA] at c))
      all_goals (try first | exact rfl | exact True.intro | assumption | omega | (simp only [Int.reduceToNat, Int.toNat_natCast, tN_add, tN_add1, tN_sub1, gF_sF, gA_sF, gL_sF, gV_sF, gF_sA, gA_sA, gL_sA, gV_sA, gF_sB, gA_sB, gL_sB, gV_sB, gF_nA, gA_nA, gL_nA, gV_nA, gT_nA, gF_mV, gA_mV, gL_mV, gV_mV, gT_mV, gT_sB, gT_sA, gT_sF, gF_grw, gT_grw, gL_grw, gA_grw, elT, Nat.reduceEqDiff, eq_self, and_self, and_true, true_and, and_false, false_and, reduceIte, faA, qc_14_3, qc_15_2, qc_17_2, sbA]; omega) | (simp only [Int.reduceToNat, Int.toNat_natCast, tN_add, tN_add1, tN_sub1, gF_sF, gA_sF, gL_sF, gV_sF, gF_sA, gA_sA, gL_sA, gV_sA, gF_sB, gA_sB, gL_sB, gV_sB, gF_nA, gA_nA, gL_nA, gV_nA, gT_nA, gF_mV, gA_mV, gL_mV, gV_mV, gT_mV, gT_sB, gT_sA, gT_sF, gF_grw, gT_grw, gL_grw, gA_grw, elT, Nat.reduceEqDiff, eq_self, and_self, and_true, true_and, and_false, false_and, reduceIte, faA, qc_14_3, qc_15_2, qc_17_2, sbA]; done) | (simp only [Int.reduceToNat, Int.toNat_natCast, tN_add, tN_add1, tN_sub1, gF_sF, gA_sF, gL_sF, gV_sF, gF_sA, gA_sA, gL_sA, gV_sA, gF_sB, gA_sB, gL_sB, gV_sB, gF_nA, gA_nA, gL_nA, gV_nA, gT_nA, gF_mV, gA_mV, gL_mV, gV_mV, gT_mV, gT_sB, gT_sA, gT_sF, gF_grw, gT_grw, gL_grw, gA_grw, elT, Nat.reduceEqDiff, eq_self, and_self, and_true, true_and, and_false, false_and, reduceIte, faA, qc_14_3, qc_15_2, qc_17_2, sbA, grl]; split <;> omega) | (show 2 * gL _ _ _ ≤ gL _ _ _; simp only [Int.reduceToNat, Int.toNat_natCast, tN_add, tN_add1, tN_sub1, gF_sF, gA_sF, gL_sF, gV_sF, gF_sA, gA_sA, gL_sA, gV_sA, gF_sB, gA_sB, gL_sB, gV_sB, gF_nA, gA_nA, gL_nA, gV_nA, gT_nA, gF_mV, gA_mV, gL_mV, gV_mV, gT_mV, gT_sB, gT_sA, gT_sF, gF_grw, gT_grw, gL_grw, gA_grw, elT, Nat.reduceEqDiff, eq_self, and_self, and_true, true_and, and_false, false_and, reduceIte, faA, qc_14_3, qc_15_2, qc_17_2, sbA]; omega))
      · exact hc σ1 hT (by rw [lnE, if_neg (by omega)]; exact h4)
      · refine c_look (n := i) ?_ hT h4 (fun x hx => ?_)
        · omega
        have hx2 : x = X.1 i := by rw [hx]; unfold lk; rw [if_pos (by omega)]
        repeat' (first | refine And.intro ?_ ?_ | (with_reducible intro c; try simp only [cmpI, cmpN, Classical.not_not, not_true_eq_false, not_false_eq_true, Int.reduceToNat, Int.toNat_natCast, tN_add, tN_add1, tN_sub1, gF_sF, gA_sF, gL_sF, gV_sF, gF_sA, gA_sA, gL_sA, gV_sA, gF_sB, gA_sB, gL_sB, gV_sB, gF_nA, gA_nA, gL_nA, gV_nA, gT_nA, gF_mV, gA_mV, gL_mV, gV_mV, gT_mV, gT_sB, gT_sA, gT_sF, gF_grw, gT_grw, gL_grw, gA_grw, elT, Nat.reduceEqDiff, eq_self, and_self, and_true, true_and, and_false, false_and, reduceIte, faA, qc_14_3, qc_15_2, qc_17_2, sbA] at c))
        all_goals (try first | exact rfl | exact True.intro | assumption | omega | (simp only [Int.reduceToNat, Int.toNat_natCast, tN_add, tN_add1, tN_sub1, gF_sF, gA_sF, gL_sF, gV_sF, gF_sA, gA_sA, gL_sA, gV_sA, gF_sB, gA_sB, gL_sB, gV_sB, gF_nA, gA_nA, gL_nA, gV_nA, gT_nA, gF_mV, gA_mV, gL_mV, gV_mV, gT_mV, gT_sB, gT_sA, gT_sF, gF_grw, gT_grw, gL_grw, gA_grw, elT, Nat.reduceEqDiff, eq_self, and_self, and_true, true_and, and_false, false_and, reduceIte, faA, qc_14_3, qc_15_2, qc_17_2, sbA]; omega) | (simp only [Int.reduceToNat, Int.toNat_natCast, tN_add, tN_add1, tN_sub1, gF_sF, gA_sF, gL_sF, gV_sF, gF_sA, gA_sA, gL_sA, gV_sA, gF_sB, gA_sB, gL_sB, gV_sB, gF_nA, gA_nA, gL_nA, gV_nA, gT_nA, gF_mV, gA_mV, gL_mV, gV_mV, gT_mV, gT_sB, gT_sA, gT_sF, gF_grw, gT_grw, gL_grw, gA_grw, elT, Nat.reduceEqDiff, eq_self, and_self, and_true, true_and, and_false, false_and, reduceIte, faA, qc_14_3, qc_15_2, qc_17_2, sbA]; done) | (simp only [Int.reduceToNat, Int.toNat_natCast, tN_add, tN_add1, tN_sub1, gF_sF, gA_sF, gL_sF, gV_sF, gF_sA, gA_sA, gL_sA, gV_sA, gF_sB, gA_sB, gL_sB, gV_sB, gF_nA, gA_nA, gL_nA, gV_nA, gT_nA, gF_mV, gA_mV, gL_mV, gV_mV, gT_mV, gT_sB, gT_sA, gT_sF, gF_grw, gT_grw, gL_grw, gA_grw, elT, Nat.reduceEqDiff, eq_self, and_self, and_true, true_and, and_false, false_and, reduceIte, faA, qc_14_3, qc_15_2, qc_17_2, sbA, grl]; split <;> omega) | (show 2 * gL _ _ _ ≤ gL _ _ _; simp only [Int.reduceToNat, Int.toNat_natCast, tN_add, tN_add1, tN_sub1, gF_sF, gA_sF, gL_sF, gV_sF, gF_sA, gA_sA, gL_sA, gV_sA, gF_sB, gA_sB, gL_sB, gV_sB, gF_nA, gA_nA, gL_nA, gV_nA, gT_nA, gF_mV, gA_mV, gL_mV, gV_mV, gT_mV, gT_sB, gT_sA, gT_sF, gF_grw, gT_grw, gL_grw, gA_grw, elT, Nat.reduceEqDiff, eq_self, and_self, and_true, true_and, and_false, false_and, reduceIte, faA, qc_14_3, qc_15_2, qc_17_2, sbA]; omega))
        · exact hc σ1 hT (by rw [lnE, if_pos (by omega), if_pos (by omega)]; exact h4)
        · refine ih (i + 1) _ y ?_ ?_ hT ?_ (fun σ2 a b => hc σ2 a ?_)
          all_goals (try first | exact rfl | exact True.intro | assumption | omega | (simp only [Int.reduceToNat, Int.toNat_natCast, tN_add, tN_add1, tN_sub1, gF_sF, gA_sF, gL_sF, gV_sF, gF_sA, gA_sA, gL_sA, gV_sA, gF_sB, gA_sB, gL_sB, gV_sB, gF_nA, gA_nA, gL_nA, gV_nA, gT_nA, gF_mV, gA_mV, gL_mV, gV_mV, gT_mV, gT_sB, gT_sA, gT_sF, gF_grw, gT_grw, gL_grw, gA_grw, elT, Nat.reduceEqDiff, eq_self, and_self, and_true, true_and, and_false, false_and, reduceIte, faA, qc_14_3, qc_15_2, qc_17_2, sbA]; omega) | (simp only [Int.reduceToNat, Int.toNat_natCast, tN_add, tN_add1, tN_sub1, gF_sF, gA_sF, gL_sF, gV_sF, gF_sA, gA_sA, gL_sA, gV_sA, gF_sB, gA_sB, gL_sB, gV_sB, gF_nA, gA_nA, gL_nA, gV_nA, gT_nA, gF_mV, gA_mV, gL_mV, gV_mV, gT_mV, gT_sB, gT_sA, gT_sF, gF_grw, gT_grw, gL_grw, gA_grw, elT, Nat.reduceEqDiff, eq_self, and_self, and_true, true_and, and_false, false_and, reduceIte, faA, qc_14_3, qc_15_2, qc_17_2, sbA]; done) | (simp only [Int.reduceToNat, Int.toNat_natCast, tN_add, tN_add1, tN_sub1, gF_sF, gA_sF, gL_sF, gV_sF, gF_sA, gA_sA, gL_sA, gV_sA, gF_sB, gA_sB, gL_sB, gV_sB, gF_nA, gA_nA, gL_nA, gV_nA, gT_nA, gF_mV, gA_mV, gL_mV, gV_mV, gT_mV, gT_sB, gT_sA, gT_sF, gF_grw, gT_grw, gL_grw, gA_grw, elT, Nat.reduceEqDiff, eq_self, and_self, and_true, true_and, and_false, false_and, reduceIte, faA, qc_14_3, qc_15_2, qc_17_2, sbA, grl]; split <;> omega) | (show 2 * gL _ _ _ ≤ gL _ _ _; simp only [Int.reduceToNat, Int.toNat_natCast, tN_add, tN_add1, tN_sub1, gF_sF, gA_sF, gL_sF, gV_sF, gF_sA, gA_sA, gL_sA, gV_sA, gF_sB, gA_sB, gL_sB, gV_sB, gF_nA, gA_nA, gL_nA, gV_nA, gT_nA, gF_mV, gA_mV, gL_mV, gV_mV, gT_mV, gT_sB, gT_sA, gT_sF, gF_grw, gT_grw, gL_grw, gA_grw, elT, Nat.reduceEqDiff, eq_self, and_self, and_true, true_and, and_false, false_and, reduceIte, faA, qc_14_3, qc_15_2, qc_17_2, sbA]; omega))
          rw [lnE, if_pos (by omega), if_neg (by omega)]
          exact b
  have outer : ∀ (n i : Nat) (σ1 : Sg) (w : Option AV), X.2 - i < n → i ≤ X.2 → TkS σ1 X → gF σ1 15 4 = (i : Int) → bl X i = bl X i0 → Jx (mdT 87 [vO 15]) 1 87 k [vO 15] σ Qₚ Eₚ 2 [some (vO 15), some (vI 1), w] [] σ1 := by
    intro n
    induction n with
    | zero => intro i σ1 c hn; omega
    | succ n ih =>
      intro i σ1 w hn hi hT h4 hb
      have s2 := hT.1.2.1
      have s3 := hT.1.2.2
      have hge := lnE_ge X (i + 1)
      have hend : ∀ y : Int, bl X i = i → Jx (mdT 87 [vO 15]) 1 87 k [vO 15] σ Qₚ Eₚ 2 [some (vO 15), some (vI 0), some (vI y)] [] σ1 := fun y e => by
        refine jx_seg (il := (fun _ => false)) (mc := true) (fun _ => grow_ok) 60 [84] (by decide) rfl ?_
        repeat' (first | refine And.intro ?_ ?_ | (with_reducible intro c; try simp only [cmpI, cmpN, Classical.not_not, not_true_eq_false, not_false_eq_true, Int.reduceToNat, Int.toNat_natCast, tN_add, tN_add1, tN_sub1, gF_sF, gA_sF, gL_sF, gV_sF, gF_sA, gA_sA, gL_sA, gV_sA, gF_sB, gA_sB, gL_sB, gV_sB, gF_nA, gA_nA, gL_nA, gV_nA, gT_nA, gF_mV, gA_mV, gL_mV, gV_mV, gT_mV, gT_sB, gT_sA, gT_sF, gF_grw, gT_grw, gL_grw, gA_grw, elT, Nat.reduceEqDiff, eq_self, and_self, and_true, true_and, and_false, false_and, reduceIte, faA, qc_14_3, qc_15_2, qc_17_2, sbA] at c))
        all_goals (try first | exact rfl | exact True.intro | assumption | omega | (simp only [Int.reduceToNat, Int.toNat_natCast, tN_add, tN_add1, tN_sub1, gF_sF, gA_sF, gL_sF, gV_sF, gF_sA, gA_sA, gL_sA, gV_sA, gF_sB, gA_sB, gL_sB, gV_sB, gF_nA, gA_nA, gL_nA, gV_nA, gT_nA, gF_mV, gA_mV, gL_mV, gV_mV, gT_mV, gT_sB, gT_sA, gT_sF, gF_grw, gT_grw, gL_grw, gA_grw, elT, Nat.reduceEqDiff, eq_self, and_self, and_true, true_and, and_false, false_and, reduceIte, faA, qc_14_3, qc_15_2, qc_17_2, sbA]; omega) | (simp only [Int.reduceToNat, Int.toNat_natCast, tN_add, tN_add1, tN_sub1, gF_sF, gA_sF, gL_sF, gV_sF, gF_sA, gA_sA, gL_sA, gV_sA, gF_sB, gA_sB, gL_sB, gV_sB, gF_nA, gA_nA, gL_nA, gV_nA, gT_nA, gF_mV, gA_mV, gL_mV, gV_mV, gT_mV, gT_sB, gT_sA, gT_sF, gF_grw, gT_grw, gL_grw, gA_grw, elT, Nat.reduceEqDiff, eq_self, and_self, and_true, true_and, and_false, false_and, reduceIte, faA, qc_14_3, qc_15_2, qc_17_2, sbA]; done) | (simp only [Int.reduceToNat, Int.toNat_natCast, tN_add, tN_add1, tN_sub1, gF_sF, gA_sF, gL_sF, gV_sF, gF_sA, gA_sA, gL_sA, gV_sA, gF_sB, gA_sB, gL_sB, gV_sB, gF_nA, gA_nA, gL_nA, gV_nA, gT_nA, gF_mV, gA_mV, gL_mV, gV_mV, gT_mV, gT_sB, gT_sA, gT_sF, gF_grw, gT_grw, gL_grw, gA_grw, elT, Nat.reduceEqDiff, eq_self, and_self, and_true, true_and, and_false, false_and, reduceIte, faA, qc_14_3, qc_15_2, qc_17_2, sbA, grl]; split <;> omega) | (show 2 * gL _ _ _ ≤ gL _ _ _; simp only [Int.reduceToNat, Int.toNat_natCast, tN_add, tN_add1, tN_sub1, gF_sF, gA_sF, gL_sF, gV_sF, gF_sA, gA_sA, gL_sA, gV_sA, gF_sB, gA_sB, gL_sB, gV_sB, gF_nA, gA_nA, gL_nA, gV_nA, gT_nA, gF_mV, gA_mV, gL_mV, gV_mV, gT_mV, gT_sB, gT_sA, gT_sF, gF_grw, gT_grw, gL_grw, gA_grw, elT, Nat.reduceEqDiff, eq_self, and_self, and_true, true_and, and_false, false_and, reduceIte, faA, qc_14_3, qc_15_2, qc_17_2, sbA]; omega))
        exact hQₚ _ _ ⟨rfl, by rw [← hb, e]; exact h4⟩
      have hgo : ∀ y : Int, isBl (X.1 i) → i < X.2 → Jx (mdT 87 [vO 15]) 1 87 k [vO 15] σ Qₚ Eₚ 2 [some (vO 15), some (vI 1), some (vI y)] [] (sF σ1 15 4 (gF σ1 15 4 + 1)) := fun y e1 e2 => by
        refine ih (i + 1) _ _ ?_ ?_ hT ?_ ?_
        all_goals (try first | exact rfl | exact True.intro | assumption | omega | (simp only [Int.reduceToNat, Int.toNat_natCast, tN_add, tN_add1, tN_sub1, gF_sF, gA_sF, gL_sF, gV_sF, gF_sA, gA_sA, gL_sA, gV_sA, gF_sB, gA_sB, gL_sB, gV_sB, gF_nA, gA_nA, gL_nA, gV_nA, gT_nA, gF_mV, gA_mV, gL_mV, gV_mV, gT_mV, gT_sB, gT_sA, gT_sF, gF_grw, gT_grw, gL_grw, gA_grw, elT, Nat.reduceEqDiff, eq_self, and_self, and_true, true_and, and_false, false_and, reduceIte, faA, qc_14_3, qc_15_2, qc_17_2, sbA]; omega) | (simp only [Int.reduceToNat, Int.toNat_natCast, tN_add, tN_add1, tN_sub1, gF_sF, gA_sF, gL_sF, gV_sF, gF_sA, gA_sA, gL_sA, gV_sA, gF_sB, gA_sB, gL_sB, gV_sB, gF_nA, gA_nA, gL_nA, gV_nA, gT_nA, gF_mV, gA_mV, gL_mV, gV_mV, gT_mV, gT_sB, gT_sA, gT_sF, gF_grw, gT_grw, gL_grw, gA_grw, elT, Nat.reduceEqDiff, eq_self, and_self, and_true, true_and, and_false, false_and, reduceIte, faA, qc_14_3, qc_15_2, qc_17_2, sbA]; done) | (simp only [Int.reduceToNat, Int.toNat_natCast, tN_add, tN_add1, tN_sub1, gF_sF, gA_sF, gL_sF, gV_sF, gF_sA, gA_sA, gL_sA, gV_sA, gF_sB, gA_sB, gL_sB, gV_sB, gF_nA, gA_nA, gL_nA, gV_nA, gT_nA, gF_mV, gA_mV, gL_mV, gV_mV, gT_mV, gT_sB, gT_sA, gT_sF, gF_grw, gT_grw, gL_grw, gA_grw, elT, Nat.reduceEqDiff, eq_self, and_self, and_true, true_and, and_false, false_and, reduceIte, faA, qc_14_3, qc_15_2, qc_17_2, sbA, grl]; split <;> omega) | (show 2 * gL _ _ _ ≤ gL _ _ _; simp only [Int.reduceToNat, Int.toNat_natCast, tN_add, tN_add1, tN_sub1, gF_sF, gA_sF, gL_sF, gV_sF, gF_sA, gA_sA, gL_sA, gV_sA, gF_sB, gA_sB, gL_sB, gV_sB, gF_nA, gA_nA, gL_nA, gV_nA, gT_nA, gF_mV, gA_mV, gL_mV, gV_mV, gT_mV, gT_sB, gT_sA, gT_sF, gF_grw, gT_grw, gL_grw, gA_grw, elT, Nat.reduceEqDiff, eq_self, and_self, and_true, true_and, and_false, false_and, reduceIte, faA, qc_14_3, qc_15_2, qc_17_2, sbA]; omega))
        rw [← hb, bl.eq_1 X i, if_pos e2, if_pos e1]
      refine jx_seg (il := (fun _ => false)) (mc := true) (fun _ => grow_ok) 80 [2, 84] (by decide) rfl ?_
      repeat' (first | refine And.intro ?_ ?_ | (with_reducible intro c; try simp only [cmpI, cmpN, Classical.not_not, not_true_eq_false, not_false_eq_true, Int.reduceToNat, Int.toNat_natCast, tN_add, tN_add1, tN_sub1, gF_sF, gA_sF, gL_sF, gV_sF, gF_sA, gA_sA, gL_sA, gV_sA, gF_sB, gA_sB, gL_sB, gV_sB, gF_nA, gA_nA, gL_nA, gV_nA, gT_nA, gF_mV, gA_mV, gL_mV, gV_mV, gT_mV, gT_sB, gT_sA, gT_sF, gF_grw, gT_grw, gL_grw, gA_grw, elT, Nat.reduceEqDiff, eq_self, and_self, and_true, true_and, and_false, false_and, reduceIte, faA, qc_14_3, qc_15_2, qc_17_2, sbA] at c))
      all_goals (try first | exact rfl | exact True.intro | assumption | omega | (simp only [Int.reduceToNat, Int.toNat_natCast, tN_add, tN_add1, tN_sub1, gF_sF, gA_sF, gL_sF, gV_sF, gF_sA, gA_sA, gL_sA, gV_sA, gF_sB, gA_sB, gL_sB, gV_sB, gF_nA, gA_nA, gL_nA, gV_nA, gT_nA, gF_mV, gA_mV, gL_mV, gV_mV, gT_mV, gT_sB, gT_sA, gT_sF, gF_grw, gT_grw, gL_grw, gA_grw, elT, Nat.reduceEqDiff, eq_self, and_self, and_true, true_and, and_false, false_and, reduceIte, faA, qc_14_3, qc_15_2, qc_17_2, sbA]; omega) | (simp only [Int.reduceToNat, Int.toNat_natCast, tN_add, tN_add1, tN_sub1, gF_sF, gA_sF, gL_sF, gV_sF, gF_sA, gA_sA, gL_sA, gV_sA, gF_sB, gA_sB, gL_sB, gV_sB, gF_nA, gA_nA, gL_nA, gV_nA, gT_nA, gF_mV, gA_mV, gL_mV, gV_mV, gT_mV, gT_sB, gT_sA, gT_sF, gF_grw, gT_grw, gL_grw, gA_grw, elT, Nat.reduceEqDiff, eq_self, and_self, and_true, true_and, and_false, false_and, reduceIte, faA, qc_14_3, qc_15_2, qc_17_2, sbA]; done) | (simp only [Int.reduceToNat, Int.toNat_natCast, tN_add, tN_add1, tN_sub1, gF_sF, gA_sF, gL_sF, gV_sF, gF_sA, gA_sA, gL_sA, gV_sA, gF_sB, gA_sB, gL_sB, gV_sB, gF_nA, gA_nA, gL_nA, gV_nA, gT_nA, gF_mV, gA_mV, gL_mV, gV_mV, gT_mV, gT_sB, gT_sA, gT_sF, gF_grw, gT_grw, gL_grw, gA_grw, elT, Nat.reduceEqDiff, eq_self, and_self, and_true, true_and, and_false, false_and, reduceIte, faA, qc_14_3, qc_15_2, qc_17_2, sbA, grl]; split <;> omega) | (show 2 * gL _ _ _ ≤ gL _ _ _; simp only [Int.reduceToNat, Int.toNat_natCast, tN_add, tN_add1, tN_sub1, gF_sF, gA_sF, gL_sF, gV_sF, gF_sA, gA_sA, gL_sA, gV_sA, gF_sB, gA_sB, gL_sB, gV_sB, gF_nA, gA_nA, gL_nA, gV_nA, gT_nA, gF_mV, gA_mV, gL_mV, gV_mV, gT_mV, gT_sB, gT_sA, gT_sF, gF_grw, gT_grw, gL_grw, gA_grw, elT, Nat.reduceEqDiff, eq_self, and_self, and_true, true_and, and_false, false_and, reduceIte, faA, qc_14_3, qc_15_2, qc_17_2, sbA]; omega))
      · exact hQₚ _ _ ⟨rfl, by rw [← hb, bl, if_neg (by omega)]; exact h4⟩
      · refine c_look (n := i) ?_ hT h4 (fun x hx => ?_)
        · omega
        have hx2 : x = X.1 i := by rw [hx]; unfold lk; rw [if_pos (by omega)]
        repeat' (first | refine And.intro ?_ ?_ | (with_reducible intro c; try simp only [cmpI, cmpN, Classical.not_not, not_true_eq_false, not_false_eq_true, Int.reduceToNat, Int.toNat_natCast, tN_add, tN_add1, tN_sub1, gF_sF, gA_sF, gL_sF, gV_sF, gF_sA, gA_sA, gL_sA, gV_sA, gF_sB, gA_sB, gL_sB, gV_sB, gF_nA, gA_nA, gL_nA, gV_nA, gT_nA, gF_mV, gA_mV, gL_mV, gV_mV, gT_mV, gT_sB, gT_sA, gT_sF, gF_grw, gT_grw, gL_grw, gA_grw, elT, Nat.reduceEqDiff, eq_self, and_self, and_true, true_and, and_false, false_and, reduceIte, faA, qc_14_3, qc_15_2, qc_17_2, sbA] at c))
        all_goals (try first | exact rfl | exact True.intro | assumption | omega | (simp only [Int.reduceToNat, Int.toNat_natCast, tN_add, tN_add1, tN_sub1, gF_sF, gA_sF, gL_sF, gV_sF, gF_sA, gA_sA, gL_sA, gV_sA, gF_sB, gA_sB, gL_sB, gV_sB, gF_nA, gA_nA, gL_nA, gV_nA, gT_nA, gF_mV, gA_mV, gL_mV, gV_mV, gT_mV, gT_sB, gT_sA, gT_sF, gF_grw, gT_grw, gL_grw, gA_grw, elT, Nat.reduceEqDiff, eq_self, and_self, and_true, true_and, and_false, false_and, reduceIte, faA, qc_14_3, qc_15_2, qc_17_2, sbA]; omega) | (simp only [Int.reduceToNat, Int.toNat_natCast, tN_add, tN_add1, tN_sub1, gF_sF, gA_sF, gL_sF, gV_sF, gF_sA, gA_sA, gL_sA, gV_sA, gF_sB, gA_sB, gL_sB, gV_sB, gF_nA, gA_nA, gL_nA, gV_nA, gT_nA, gF_mV, gA_mV, gL_mV, gV_mV, gT_mV, gT_sB, gT_sA, gT_sF, gF_grw, gT_grw, gL_grw, gA_grw, elT, Nat.reduceEqDiff, eq_self, and_self, and_true, true_and, and_false, false_and, reduceIte, faA, qc_14_3, qc_15_2, qc_17_2, sbA]; done) | (simp only [Int.reduceToNat, Int.toNat_natCast, tN_add, tN_add1, tN_sub1, gF_sF, gA_sF, gL_sF, gV_sF, gF_sA, gA_sA, gL_sA, gV_sA, gF_sB, gA_sB, gL_sB, gV_sB, gF_nA, gA_nA, gL_nA, gV_nA, gT_nA, gF_mV, gA_mV, gL_mV, gV_mV, gT_mV, gT_sB, gT_sA, gT_sF, gF_grw, gT_grw, gL_grw, gA_grw, elT, Nat.reduceEqDiff, eq_self, and_self, and_true, true_and, and_false, false_and, reduceIte, faA, qc_14_3, qc_15_2, qc_17_2, sbA, grl]; split <;> omega) | (show 2 * gL _ _ _ ≤ gL _ _ _; simp only [Int.reduceToNat, Int.toNat_natCast, tN_add, tN_add1, tN_sub1, gF_sF, gA_sF, gL_sF, gV_sF, gF_sA, gA_sA, gL_sA, gV_sA, gF_sB, gA_sB, gL_sB, gV_sB, gF_nA, gA_nA, gL_nA, gV_nA, gT_nA, gF_mV, gA_mV, gL_mV, gV_mV, gT_mV, gT_sB, gT_sA, gT_sF, gF_grw, gT_grw, gL_grw, gA_grw, elT, Nat.reduceEqDiff, eq_self, and_self, and_true, true_and, and_false, false_and, reduceIte, faA, qc_14_3, qc_15_2, qc_17_2, sbA]; omega))
        · exact hgo _ (by omega) (by omega)
        · exact hgo _ (by omega) (by omega)
        · exact hgo _ (by omega) (by omega)
        · exact hend _ (by rw [bl, if_pos (by omega), if_neg (by omega), if_neg (by omega)])
        · refine c_look (n := i + 1) ?_ hT ?_ (fun y hy => ?_)
          all_goals (try first | exact rfl | exact True.intro | assumption | omega | (simp only [Int.reduceToNat, Int.toNat_natCast, tN_add, tN_add1, tN_sub1, gF_sF, gA_sF, gL_sF, gV_sF, gF_sA, gA_sA, gL_sA, gV_sA, gF_sB, gA_sB, gL_sB, gV_sB, gF_nA, gA_nA, gL_nA, gV_nA, gT_nA, gF_mV, gA_mV, gL_mV, gV_mV, gT_mV, gT_sB, gT_sA, gT_sF, gF_grw, gT_grw, gL_grw, gA_grw, elT, Nat.reduceEqDiff, eq_self, and_self, and_true, true_and, and_false, false_and, reduceIte, faA, qc_14_3, qc_15_2, qc_17_2, sbA]; omega) | (simp only [Int.reduceToNat, Int.toNat_natCast, tN_add, tN_add1, tN_sub1, gF_sF, gA_sF, gL_sF, gV_sF, gF_sA, gA_sA, gL_sA, gV_sA, gF_sB, gA_sB, gL_sB, gV_sB, gF_nA, gA_nA, gL_nA, gV_nA, gT_nA, gF_mV, gA_mV, gL_mV, gV_mV, gT_mV, gT_sB, gT_sA, gT_sF, gF_grw, gT_grw, gL_grw, gA_grw, elT, Nat.reduceEqDiff, eq_self, and_self, and_true, true_and, and_false, false_and, reduceIte, faA, qc_14_3, qc_15_2, qc_17_2, sbA]; done) | (simp only [Int.reduceToNat, Int.toNat_natCast, tN_add, tN_add1, tN_sub1, gF_sF, gA_sF, gL_sF, gV_sF, gF_sA, gA_sA, gL_sA, gV_sA, gF_sB, gA_sB, gL_sB, gV_sB, gF_nA, gA_nA, gL_nA, gV_nA, gT_nA, gF_mV, gA_mV, gL_mV, gV_mV, gT_mV, gT_sB, gT_sA, gT_sF, gF_grw, gT_grw, gL_grw, gA_grw, elT, Nat.reduceEqDiff, eq_self, and_self, and_true, true_and, and_false, false_and, reduceIte, faA, qc_14_3, qc_15_2, qc_17_2, sbA, grl]; split <;> omega) | (show 2 * gL _ _ _ ≤ gL _ _ _; simp only [Int.reduceToNat, Int.toNat_natCast, tN_add, tN_add1, tN_sub1, gF_sF, gA_sF, gL_sF, gV_sF, gF_sA, gA_sA, gL_sA, gV_sA, gF_sB, gA_sB, gL_sB, gV_sB, gF_nA, gA_nA, gL_nA, gV_nA, gT_nA, gF_mV, gA_mV, gL_mV, gV_mV, gT_mV, gT_sB, gT_sA, gT_sF, gF_grw, gT_grw, gL_grw, gA_grw, elT, Nat.reduceEqDiff, eq_self, and_self, and_true, true_and, and_false, false_and, reduceIte, faA, qc_14_3, qc_15_2, qc_17_2, sbA]; omega))
          repeat' (first | refine And.intro ?_ ?_ | (with_reducible intro c; try simp only [cmpI, cmpN, Classical.not_not, not_true_eq_false, not_false_eq_true, Int.reduceToNat, Int.toNat_natCast, tN_add, tN_add1, tN_sub1, gF_sF, gA_sF, gL_sF, gV_sF, gF_sA, gA_sA, gL_sA, gV_sA, gF_sB, gA_sB, gL_sB, gV_sB, gF_nA, gA_nA, gL_nA, gV_nA, gT_nA, gF_mV, gA_mV, gL_mV, gV_mV, gT_mV, gT_sB, gT_sA, gT_sF, gF_grw, gT_grw, gL_grw, gA_grw, elT, Nat.reduceEqDiff, eq_self, and_self, and_true, true_and, and_false, false_and, reduceIte, faA, qc_14_3, qc_15_2, qc_17_2, sbA] at c))
          all_goals (try first | exact rfl | exact True.intro | assumption | omega | (simp only [Int.reduceToNat, Int.toNat_natCast, tN_add, tN_add1, tN_sub1, gF_sF, gA_sF, gL_sF, gV_sF, gF_sA, gA_sA, gL_sA, gV_sA, gF_sB, gA_sB, gL_sB, gV_sB, gF_nA, gA_nA, gL_nA, gV_nA, gT_nA, gF_mV, gA_mV, gL_mV, gV_mV, gT_mV, gT_sB, gT_sA, gT_sF, gF_grw, gT_grw, gL_grw, gA_grw, elT, Nat.reduceEqDiff, eq_self, and_self, and_true, true_and, and_false, false_and, reduceIte, faA, qc_14_3, qc_15_2, qc_17_2, sbA]; omega) | (simp only [Int.reduceToNat, Int.toNat_natCast, tN_add, tN_add1, tN_sub1, gF_sF, gA_sF, gL_sF, gV_sF, gF_sA, gA_sA, gL_sA, gV_sA, gF_sB, gA_sB, gL_sB, gV_sB, gF_nA, gA_nA, gL_nA, gV_nA, gT_nA, gF_mV, gA_mV, gL_mV, gV_mV, gT_mV, gT_sB, gT_sA, gT_sF, gF_grw, gT_grw, gL_grw, gA_grw, elT, Nat.reduceEqDiff, eq_self, and_self, and_true, true_and, and_false, false_and, reduceIte, faA, qc_14_3, qc_15_2, qc_17_2, sbA]; done) | (simp only [Int.reduceToNat, Int.toNat_natCast, tN_add, tN_add1, tN_sub1, gF_sF, gA_sF, gL_sF, gV_sF, gF_sA, gA_sA, gL_sA, gV_sA, gF_sB, gA_sB, gL_sB, gV_sB, gF_nA, gA_nA, gL_nA, gV_nA, gT_nA, gF_mV, gA_mV, gL_mV, gV_mV, gT_mV, gT_sB, gT_sA, gT_sF, gF_grw, gT_grw, gL_grw, gA_grw, elT, Nat.reduceEqDiff, eq_self, and_self, and_true, true_and, and_false, false_and, reduceIte, faA, qc_14_3, qc_15_2, qc_17_2, sbA, grl]; split <;> omega) | (show 2 * gL _ _ _ ≤ gL _ _ _; simp only [Int.reduceToNat, Int.toNat_natCast, tN_add, tN_add1, tN_sub1, gF_sF, gA_sF, gL_sF, gV_sF, gF_sA, gA_sA, gL_sA, gV_sA, gF_sB, gA_sB, gL_sB, gV_sB, gF_nA, gA_nA, gL_nA, gV_nA, gT_nA, gF_mV, gA_mV, gL_mV, gV_mV, gT_mV, gT_sB, gT_sA, gT_sF, gF_grw, gT_grw, gL_grw, gA_grw, elT, Nat.reduceEqDiff, eq_self, and_self, and_true, true_and, and_false, false_and, reduceIte, faA, qc_14_3, qc_15_2, qc_17_2, sbA]; omega))
          · exact hend _ (by rw [bl, if_pos (by omega), if_neg (by omega), if_neg (by omega)])
          · have el : lnE X i = lnE X (i + 1) := by rw [lnE, if_pos (by omega), if_neg (by omega)]
            refine inner (X.2 - i + 1) i σ1 _ (by omega) hi hT h4 (fun σ2 a b => ?_)
            rw [el] at b
            have hle := lnE_le X (i + 1) (by omega)
            exact ih (lnE X (i + 1)) σ2 _ (by omega) hle a b (by rw [← hb, bl.eq_1 X i, if_pos (by omega), if_neg (by omega), if_pos (by omega)])
        · exact hgo _ (by omega) (by omega)
  refine ct_seg (il := (fun _ => false)) (mc := true) (fun _ => grow_ok) 40 [2, 84] (by decide) (Nat.le_of_ble_eq_true rfl) ?_
  exact outer (X.2 - i0 + 1) i0 σ none (by omega) hi0 hS h4 rfl
end
section
/-! READING, in pictures: what a reader has in hand; what its methods come to by the grammar -/
set_option maxRecDepth 100000
def wpP (r : PR) (QO : List Nd → Nat → Prop) (QE : Nat → Prop) : Prop := match r with
  | some (.inr q) => QO q.1 q.2
  | some (.inl e) => QE e
  | none => False
theorem wp_ok {l : List Nd} {j : Nat} {QO : List Nd → Nat → Prop} {QE : Nat → Prop} : wpP (pOk l j) QO QE = QO l j := rfl
theorem wp_er {j : Nat} {QO : List Nd → Nat → Prop} {QE : Nat → Prop} : wpP (pEr j) QO QE = QE j := rfl
theorem wp_b {r : PR} {f : List Nd → Nat → PR} {QO : List Nd → Nat → Prop} {QE : Nat → Prop} (h : wpP (pb r f) QO QE) : wpP r (fun l j => r = pOk l j ∧ wpP (f l j) QO QE) QE := by
  unfold pb at h
  unfold wpP
  split at h
  · exact ⟨rfl, h⟩
  · exact h
  · exact h
theorem wp_mono {r : PR} {QO QOₚ : List Nd → Nat → Prop} {QE QEₚ : Nat → Prop} (h : wpP r QO QE) (h1 : ∀ l j, r = pOk l j → QO l j → QOₚ l j) (h2 : ∀ e, QE e → QEₚ e) : wpP r QOₚ QEₚ := by
  unfold wpP at h ⊢
  split at h
  · exact h1 _ _ rfl h
  · exact h2 _ h
  · exact h
theorem wp_S {p q : Nat → PR} {j : Nat} {QO : List Nd → Nat → Prop} {QE : Nat → Prop} (h : wpP (pS p q j) QO QE) : wpP (p j) (fun l j1 => p j = pOk l j1 ∧ wpP (q j1) (fun l2 j2 => QO (l ++ l2) j2) QE) QE := by
  unfold pS at h
  refine wp_mono (wp_b h) (fun l j1 e q => ⟨e, ?_⟩) (fun _ q => q)
  exact wp_mono (wp_b q.2) (fun l2 j2 _ q => q.2) (fun _ q => q)
theorem wp_W {k j0 j : Nat} {p : Nat → PR} {QO : List Nd → Nat → Prop} {QE : Nat → Prop} (h : wpP (pW k j0 p j) QO QE) : wpP (p j) (fun l j1 => QO ((k, j0, l.length + 1) :: l) j1) QE := by
  unfold pW at h
  exact wp_mono (wp_b h) (fun l j1 e q => q.2) (fun _ q => q)
theorem wp_T {K : Nat → Nat} {t j : Nat} {QO : List Nd → Nat → Prop} {QE : Nat → Prop} (h : wpP (pT K t j) QO QE) : (K j = t → QO [] (j + 1)) ∧ (K j ≠ t → QE j) := by
  unfold pT at h
  refine ⟨fun c => ?_, fun c => ?_⟩
  · rw [if_pos c] at h; exact h
  · rw [if_neg c] at h; exact h
theorem wp_N {K : Nat → Nat} {j : Nat} {QO : List Nd → Nat → Prop} {QE : Nat → Prop} (h : wpP (pN K j) QO QE) : (K j = 2 → QO [(21, j, 1)] (j + 1)) ∧ (K j ≠ 2 → QE j) := by
  unfold pN at h
  refine ⟨fun c => ?_, fun c => ?_⟩
  · rw [if_pos c] at h; exact h
  · rw [if_neg c] at h; exact h
/-- the letters of a token -/
noncomputable def tt (X : Tx) (t : Nat) : List Int := (List.range (tln X t)).map (fun q => X.1 (tpo X t + q))
/-- a name that is a new one perhaps -/
def nad (NS : List (List Int)) (l : List Int) : List (List Int) := if l ∈ NS then NS else NS ++ [l]
/-- a node of the tree: kind, place, value, size -/
abbrev N4 : Type := Int × Int × Int × Int
noncomputable def nd4 (X : Tx) (NS : List (List Int)) (n : Nd) : N4 := ((n.1 : Int), (tpo X n.2.1 : Int), (if n.1 = 21 then ((NS.idxOf (tt X n.2.1) : Nat) : Int) else if n.1 = 20 then tvl X n.2.1 else 0), (n.2.2 : Int))
noncomputable def nm1 (X : Tx) (NS : List (List Int)) (n : Nd) : List (List Int) := if n.1 = 21 then nad NS (tt X n.2.1) else NS
noncomputable def rsl (X : Tx) : List (List Int) → List Nd → List N4
  | _, [] => []
  | NS, n :: l => nd4 X (nm1 X NS n) n :: rsl X (nm1 X NS n) l
noncomputable def nms (X : Tx) : List (List Int) → List Nd → List (List Int)
  | NS, [] => NS
  | NS, n :: l => nms X (nm1 X NS n) l
theorem nms_app (X : Tx) : ∀ (l m : List Nd) (NS : List (List Int)), nms X NS (l ++ m) = nms X (nms X NS l) m
  | [], _, _ => rfl
  | _ :: l, m, _ => nms_app X l m _
theorem rsl_app (X : Tx) : ∀ (l m : List Nd) (NS : List (List Int)), rsl X NS (l ++ m) = rsl X NS l ++ rsl X (nms X NS l) m
  | [], _, _ => rfl
  | n :: l, m, NS => by
    show nd4 X (nm1 X NS n) n :: rsl X (nm1 X NS n) (l ++ m) = nd4 X (nm1 X NS n) n :: (rsl X (nm1 X NS n) l ++ rsl X (nms X (nm1 X NS n) l) m)
    rw [rsl_app X l m]
theorem rsl_len (X : Tx) : ∀ (l : List Nd) (NS : List (List Int)), (rsl X NS l).length = l.length
  | [], _ => rfl
  | n :: l, NS => by
    show (rsl X (nm1 X NS n) l).length + 1 = l.length + 1
    rw [rsl_len X l]
theorem tt_len (X : Tx) (t : Nat) : (tt X t).length = tln X t := by unfold tt; simp
end
section
/-! facts of tokens -/
set_option maxRecDepth 100000
theorem spl_range (X : Tx) (i n : Nat) : ∀ (f k : Nat), spl X i n f k = 1 ∨ (k ≤ spl X i n f k ∧ spl X i n f k < 52 ∧ mt X i n (spl X i n f k))
  | 0, _ => Or.inl rfl
  | f + 1, k => by
    by_cases h : k < 52
    · by_cases m : mt X i n k
      · have e : spl X i n (f + 1) k = k := by
          show (if k < 52 then (haveI := Classical.propDecidable (mt X i n k); if mt X i n k then k else spl X i n f (k + 1)) else 1) = k
          rw [if_pos h]
          exact if_pos m
        rw [e]
        exact Or.inr ⟨Nat.le_refl _, h, m⟩
      · have e : spl X i n (f + 1) k = spl X i n f (k + 1) := by
          show (if k < 52 then (haveI := Classical.propDecidable (mt X i n k); if mt X i n k then k else spl X i n f (k + 1)) else 1) = _
          rw [if_pos h]
          exact if_neg m
        rw [e]
        rcases spl_range X i n f (k + 1) with c | ⟨c1, c2, c3⟩
        · exact Or.inl c
        · exact Or.inr ⟨by omega, c2, c3⟩
    · have e : spl X i n (f + 1) k = 1 := by
        show (if k < 52 then (haveI := Classical.propDecidable (mt X i n k); if mt X i n k then k else spl X i n f (k + 1)) else 1) = _
        rw [if_neg h]
      exact Or.inl e
theorem tkE_2 {X : Tx} {i : Nat} (h : (tkE X i).1 = 2) : i < X.2 ∧ isLt (X.1 i) ∧ (tkE X i).2 = wE X i - i := by
  unfold tkE at h ⊢
  by_cases h0 : i < X.2
  · rw [if_pos h0] at h ⊢
    by_cases h1 : isLt (X.1 i)
    · rw [if_pos h1]
      exact ⟨h0, h1, rfl⟩
    · exfalso
      rw [if_neg h1] at h
      by_cases h2 : isDg (X.1 i)
      · rw [if_pos h2] at h
        by_cases h3 : okN X i (dE X i - i)
        · have : (3 : Nat) = 2 := by
            have h : (haveI := Classical.propDecidable (okN X i (dE X i - i)); if okN X i (dE X i - i) then 3 else 1) = 2 := h
            rw [if_pos h3] at h
            exact h
          omega
        · have : (1 : Nat) = 2 := by
            have h : (haveI := Classical.propDecidable (okN X i (dE X i - i)); if okN X i (dE X i - i) then 3 else 1) = 2 := h
            rw [if_neg h3] at h
            exact h
          omega
      · rw [if_neg h2] at h
        split at h
        · have h : spl X i 2 60 4 = 2 := h
          rcases spl_range X i 2 60 4 with c | ⟨c, -⟩ <;> omega
        · have h : spl X i 1 60 4 = 2 := h
          rcases spl_range X i 1 60 4 with c | ⟨c, -⟩ <;> omega
  · rw [if_neg h0] at h
    have h : (0 : Nat) = 2 := h
    omega
theorem wE_stop (X : Tx) (i : Nat) (h : wE X i < X.2) : ¬ isLt (X.1 (wE X i)) ∧ ¬ isDg (X.1 (wE X i)) := by
  by_cases h0 : i < X.2
  · by_cases h1 : isLt (X.1 i) ∨ isDg (X.1 i)
    · have e : wE X i = wE X (i + 1) := by rw [wE, if_pos h0, if_pos h1]
      rw [e] at h ⊢
      exact wE_stop X (i + 1) h
    · have e : wE X i = i := by rw [wE, if_pos h0, if_neg h1]
      rw [e]
      exact ⟨fun c => h1 (Or.inl c), fun c => h1 (Or.inr c)⟩
  · have e : wE X i = i := by rw [wE, if_neg h0]
    rw [e] at h
    omega
  termination_by X.2 - i
/-- behind a name no other one stands at once -/
theorem tk_adj {X : Tx} {j : Nat} (h1 : tkd X j = 2) (h2 : tkd X (j + 1) = 2) : tpo X j + tln X j + 1 ≤ tpo X (j + 1) := by
  obtain ⟨a1, a2, a3⟩ := tkE_2 h1
  obtain ⟨b1, b2, b3⟩ := tkE_2 h2
  have hge := wE_ge X (tpo X j)
  have e : tpo X j + tln X j = wE X (tpo X j) := by
    show tpo X j + (tkE X (tpo X j)).2 = _
    rw [a3]; omega
  have e2 : tpo X (j + 1) = bl X (wE X (tpo X j)) := by rw [← e]; rfl
  have hb := bl_ge X (wE X (tpo X j))
  rcases Nat.lt_or_ge (wE X (tpo X j)) (tpo X (j + 1)) with c | c
  · omega
  · exfalso
    have e3 : tpo X (j + 1) = wE X (tpo X j) := by omega
    rw [e3] at b1 b2
    exact (wE_stop X _ b1).1 b2
theorem tln_pos {X : Tx} {j : Nat} (h : tkd X j ≠ 0) : 1 ≤ tln X j ∧ tpo X j + tln X j ≤ tpo X (j + 1) := by
  obtain ⟨h1, h2⟩ := tpo_lt h
  exact ⟨(tkE_len h1).1, bl_ge X _⟩
end
section
/-! Tree: object 9 -/
set_option maxRecDepth 100000
abbrev z4 : N4 := (0, 0, 0, 0)
def TrIs (σ : Sg) (N : List N4) : Prop := gF σ 9 5 = (N.length : Int) ∧ (N.length ≤ gL σ 9 1 ∧ N.length ≤ gL σ 9 2 ∧ N.length ≤ gL σ 9 3 ∧ N.length ≤ gL σ 9 4) ∧ (64 ≤ gL σ 9 1 ∧ 64 ≤ gL σ 9 2 ∧ 64 ≤ gL σ 9 3 ∧ 64 ≤ gL σ 9 4) ∧
  (∀ i, i < N.length → gA σ 9 1 i = (N.getD i z4).1 ∧ gA σ 9 2 i = (N.getD i z4).2.1 ∧ gA σ 9 3 i = (N.getD i z4).2.2.1 ∧ gA σ 9 4 i = (N.getD i z4).2.2.2) ∧ N.length ≤ 2000
theorem fine_K {ph : Nat} {σ : Sg} (h : Fine ph σ) {o : Nat} (ho : o < nSt ph) (hk : kcOf o ≠ 0) : gK σ o = kcOf o := by
  obtain ⟨G, H, hR⟩ := h
  exact hR.2.2.2.2.2.1.2.1 o ho hk
theorem fine_N {ph : Nat} {σ : Sg} (h : Fine ph σ) : nSt ph ≤ gN σ := by
  obtain ⟨G, H, hR⟩ := h
  exact hR.2.2.2.2.2.1.1
end
section
/-! Names: names that go, tables made anew -/
set_option maxRecDepth 100000
theorem take_nmO {M : List (List Int)} {n k : Nat} (h : k ≤ n) : nmO (M.take n) k = nmO M k := by
  unfold nmO
  rw [List.take_take, Nat.min_eq_left h]
theorem take_nmT {M : List (List Int)} {n k : Nat} (h : k < n) : nmT (M.take n) k = nmT M k := by
  unfold nmT
  rw [List.getD_eq_getElem?_getD, List.getD_eq_getElem?_getD, List.getElem?_take_of_lt h]
theorem nmB_take {σ σₚ : Sg} {M : List (List Int)} {n : Nat} (h : NmB σ M) (hn : n ≤ M.length) (h1 : gF σₚ 4 3 = (n : Int)) (h2 : gF σₚ 5 2 = (nmO M n : Int)) (h3 : gL σₚ 4 2 = gL σ 4 2) (h4 : gL σₚ 5 1 = gL σ 5 1) (h5 : gL σₚ 4 4 = gL σ 4 4) (h6 : gA σₚ 4 2 = gA σ 4 2) (h7 : gA σₚ 5 1 = gA σ 5 1) : NmB σₚ (M.take n) := by
  obtain ⟨b1, b2, ⟨b3, b4, b5, b6⟩, b7, b8, b9, ⟨b10, b11⟩, b12⟩ := h
  have hl : (M.take n).length = n := by rw [List.length_take]; omega
  have ho := nmO_le hn
  unfold NmB
  rw [hl, take_nmO (Nat.le_refl n), h3, h4, h5, h6]
  refine ⟨h1, h2, ⟨by omega, by omega, b5, b6⟩, fun k hk => ?_, fun k hk => ?_, List.Nodup.sublist (List.take_sublist n M) b9, ⟨by omega, by omega⟩, b12⟩
  · rw [take_nmO hk]; exact b7 k (by omega)
  · rw [take_nmO (by omega), take_nmT hk]
    unfold Bt
    rw [h4, h7]
    exact b8 k (by omega)
theorem c_cut {k t : Nat} {ti : Int} {NS : List (List Int)} {σ : Sg} {Q : Option AV → Sg → Prop} {E : Int → Sg → Prop} (hk : 5 ≤ k) (hN : NmIs σ NS) (ht : ti = (t : Int)) (hQ : ∀ σₚ, Fr (mdT 37 [vO 4, vI ti]) σ σₚ → NmIs σₚ (NS.take t) → Q none σₚ) : Ct 1 37 k [vO 4, vI ti] σ Q E := by
  subst ht
  refine ct_cp (P := fun r σₚ => r = none ∧ NmIs σₚ (NS.take t)) (fun Qₚ Eₚ hQₚ => ?_) (fun r σₚ f q => by obtain ⟨rfl, q⟩ := q; exact hQ σₚ f q)
  have loop : ∀ (m : Nat) (M : List (List Int)) (σ1 : Sg) (w : Option AV), M.length < m → NmIs σ1 M → M.take t = NS.take t → Jx (mdT 37 [vO 4, vI (t : Int)]) 1 37 k [vO 4, vI (t : Int)] σ Qₚ Eₚ 0 [some (vO 4), some (vI (t : Int)), w] [] σ1 := by
    intro m
    induction m with
    | zero => intro M σ1 w h; omega
    | succ m ih =>
      intro M σ1 w hm hM hMt
      obtain ⟨hB, hT, h2⟩ := hM
      have b1 := hB.1
      have b3 := hB.2.2.1
      have b7 := hB.2.2.2.1
      have b9 := hB.2.2.2.2.2.1
      have b10 := hB.2.2.2.2.2.2.1
      refine jx_seg (il := (fun _ => false)) (mc := true) (fun _ => grow_ok) 80 [0] (by decide) rfl ?_
      repeat' (first | refine And.intro ?_ ?_ | (with_reducible intro c; try simp only [cmpI, cmpN, Classical.not_not, not_true_eq_false, not_false_eq_true, Int.reduceToNat, Int.toNat_natCast, tN_add, tN_add1, tN_sub1, gF_sF, gA_sF, gL_sF, gV_sF, gF_sA, gA_sA, gL_sA, gV_sA, gF_sB, gA_sB, gL_sB, gV_sB, gF_nA, gA_nA, gL_nA, gV_nA, gT_nA, gF_mV, gA_mV, gL_mV, gV_mV, gT_mV, gT_sB, gT_sA, gT_sF, gF_grw, gT_grw, gL_grw, gA_grw, elT, Nat.reduceEqDiff, eq_self, and_self, and_true, true_and, and_false, false_and, reduceIte, faA, qc_14_3, qc_15_2, qc_17_2, sbA] at c))
      all_goals (try first | exact rfl | exact True.intro | assumption | omega | (simp only [Int.reduceToNat, Int.toNat_natCast, tN_add, tN_add1, tN_sub1, gF_sF, gA_sF, gL_sF, gV_sF, gF_sA, gA_sA, gL_sA, gV_sA, gF_sB, gA_sB, gL_sB, gV_sB, gF_nA, gA_nA, gL_nA, gV_nA, gT_nA, gF_mV, gA_mV, gL_mV, gV_mV, gT_mV, gT_sB, gT_sA, gT_sF, gF_grw, gT_grw, gL_grw, gA_grw, elT, Nat.reduceEqDiff, eq_self, and_self, and_true, true_and, and_false, false_and, reduceIte, faA, qc_14_3, qc_15_2, qc_17_2, sbA]; omega) | (simp only [Int.reduceToNat, Int.toNat_natCast, tN_add, tN_add1, tN_sub1, gF_sF, gA_sF, gL_sF, gV_sF, gF_sA, gA_sA, gL_sA, gV_sA, gF_sB, gA_sB, gL_sB, gV_sB, gF_nA, gA_nA, gL_nA, gV_nA, gT_nA, gF_mV, gA_mV, gL_mV, gV_mV, gT_mV, gT_sB, gT_sA, gT_sF, gF_grw, gT_grw, gL_grw, gA_grw, elT, Nat.reduceEqDiff, eq_self, and_self, and_true, true_and, and_false, false_and, reduceIte, faA, qc_14_3, qc_15_2, qc_17_2, sbA]; done) | (simp only [Int.reduceToNat, Int.toNat_natCast, tN_add, tN_add1, tN_sub1, gF_sF, gA_sF, gL_sF, gV_sF, gF_sA, gA_sA, gL_sA, gV_sA, gF_sB, gA_sB, gL_sB, gV_sB, gF_nA, gA_nA, gL_nA, gV_nA, gT_nA, gF_mV, gA_mV, gL_mV, gV_mV, gT_mV, gT_sB, gT_sA, gT_sF, gF_grw, gT_grw, gL_grw, gA_grw, elT, Nat.reduceEqDiff, eq_self, and_self, and_true, true_and, and_false, false_and, reduceIte, faA, qc_14_3, qc_15_2, qc_17_2, sbA, grl]; split <;> omega) | (show 2 * gL _ _ _ ≤ gL _ _ _; simp only [Int.reduceToNat, Int.toNat_natCast, tN_add, tN_add1, tN_sub1, gF_sF, gA_sF, gL_sF, gV_sF, gF_sA, gA_sA, gL_sA, gV_sA, gF_sB, gA_sB, gL_sB, gV_sB, gF_nA, gA_nA, gL_nA, gV_nA, gT_nA, gF_mV, gA_mV, gL_mV, gV_mV, gT_mV, gT_sB, gT_sA, gT_sF, gF_grw, gT_grw, gL_grw, gA_grw, elT, Nat.reduceEqDiff, eq_self, and_self, and_true, true_and, and_false, false_and, reduceIte, faA, qc_14_3, qc_15_2, qc_17_2, sbA]; omega))
      · refine hQₚ _ _ ⟨rfl, ?_⟩
        rw [← hMt, List.take_of_length_le (by omega)]
        exact ⟨hB, hT, h2⟩
      · have hpos : 0 < M.length := by omega
        have e0 : gF σ1 4 3 - 1 = ((M.length - 1 : Nat) : Int) := by omega
        have hx1 := nmO_succ (NS := M) (k := M.length - 1) (by omega)
        rw [show M.length - 1 + 1 = M.length by omega] at hx1
        refine c_len (n := M.length - 1) hB ?_ ?_ (fun x hx => ?_)
        all_goals (try first | exact rfl | exact True.intro | assumption | omega | (simp only [Int.reduceToNat, Int.toNat_natCast, tN_add, tN_add1, tN_sub1, gF_sF, gA_sF, gL_sF, gV_sF, gF_sA, gA_sA, gL_sA, gV_sA, gF_sB, gA_sB, gL_sB, gV_sB, gF_nA, gA_nA, gL_nA, gV_nA, gT_nA, gF_mV, gA_mV, gL_mV, gV_mV, gT_mV, gT_sB, gT_sA, gT_sF, gF_grw, gT_grw, gL_grw, gA_grw, elT, Nat.reduceEqDiff, eq_self, and_self, and_true, true_and, and_false, false_and, reduceIte, faA, qc_14_3, qc_15_2, qc_17_2, sbA]; omega) | (simp only [Int.reduceToNat, Int.toNat_natCast, tN_add, tN_add1, tN_sub1, gF_sF, gA_sF, gL_sF, gV_sF, gF_sA, gA_sA, gL_sA, gV_sA, gF_sB, gA_sB, gL_sB, gV_sB, gF_nA, gA_nA, gL_nA, gV_nA, gT_nA, gF_mV, gA_mV, gL_mV, gV_mV, gT_mV, gT_sB, gT_sA, gT_sF, gF_grw, gT_grw, gL_grw, gA_grw, elT, Nat.reduceEqDiff, eq_self, and_self, and_true, true_and, and_false, false_and, reduceIte, faA, qc_14_3, qc_15_2, qc_17_2, sbA]; done) | (simp only [Int.reduceToNat, Int.toNat_natCast, tN_add, tN_add1, tN_sub1, gF_sF, gA_sF, gL_sF, gV_sF, gF_sA, gA_sA, gL_sA, gV_sA, gF_sB, gA_sB, gL_sB, gV_sB, gF_nA, gA_nA, gL_nA, gV_nA, gT_nA, gF_mV, gA_mV, gL_mV, gV_mV, gT_mV, gT_sB, gT_sA, gT_sF, gF_grw, gT_grw, gL_grw, gA_grw, elT, Nat.reduceEqDiff, eq_self, and_self, and_true, true_and, and_false, false_and, reduceIte, faA, qc_14_3, qc_15_2, qc_17_2, sbA, grl]; split <;> omega) | (show 2 * gL _ _ _ ≤ gL _ _ _; simp only [Int.reduceToNat, Int.toNat_natCast, tN_add, tN_add1, tN_sub1, gF_sF, gA_sF, gL_sF, gV_sF, gF_sA, gA_sA, gL_sA, gV_sA, gF_sB, gA_sB, gL_sB, gV_sB, gF_nA, gA_nA, gL_nA, gV_nA, gT_nA, gF_mV, gA_mV, gL_mV, gV_mV, gT_mV, gT_sB, gT_sA, gT_sF, gF_grw, gT_grw, gL_grw, gA_grw, elT, Nat.reduceEqDiff, eq_self, and_self, and_true, true_and, and_false, false_and, reduceIte, faA, qc_14_3, qc_15_2, qc_17_2, sbA]; omega))
        repeat' (first | refine And.intro ?_ ?_ | (with_reducible intro c; try simp only [cmpI, cmpN, Classical.not_not, not_true_eq_false, not_false_eq_true, Int.reduceToNat, Int.toNat_natCast, tN_add, tN_add1, tN_sub1, gF_sF, gA_sF, gL_sF, gV_sF, gF_sA, gA_sA, gL_sA, gV_sA, gF_sB, gA_sB, gL_sB, gV_sB, gF_nA, gA_nA, gL_nA, gV_nA, gT_nA, gF_mV, gA_mV, gL_mV, gV_mV, gT_mV, gT_sB, gT_sA, gT_sF, gF_grw, gT_grw, gL_grw, gA_grw, elT, Nat.reduceEqDiff, eq_self, and_self, and_true, true_and, and_false, false_and, reduceIte, faA, qc_14_3, qc_15_2, qc_17_2, sbA] at c))
        all_goals (try first | exact rfl | exact True.intro | assumption | omega | (simp only [Int.reduceToNat, Int.toNat_natCast, tN_add, tN_add1, tN_sub1, gF_sF, gA_sF, gL_sF, gV_sF, gF_sA, gA_sA, gL_sA, gV_sA, gF_sB, gA_sB, gL_sB, gV_sB, gF_nA, gA_nA, gL_nA, gV_nA, gT_nA, gF_mV, gA_mV, gL_mV, gV_mV, gT_mV, gT_sB, gT_sA, gT_sF, gF_grw, gT_grw, gL_grw, gA_grw, elT, Nat.reduceEqDiff, eq_self, and_self, and_true, true_and, and_false, false_and, reduceIte, faA, qc_14_3, qc_15_2, qc_17_2, sbA]; omega) | (simp only [Int.reduceToNat, Int.toNat_natCast, tN_add, tN_add1, tN_sub1, gF_sF, gA_sF, gL_sF, gV_sF, gF_sA, gA_sA, gL_sA, gV_sA, gF_sB, gA_sB, gL_sB, gV_sB, gF_nA, gA_nA, gL_nA, gV_nA, gT_nA, gF_mV, gA_mV, gL_mV, gV_mV, gT_mV, gT_sB, gT_sA, gT_sF, gF_grw, gT_grw, gL_grw, gA_grw, elT, Nat.reduceEqDiff, eq_self, and_self, and_true, true_and, and_false, false_and, reduceIte, faA, qc_14_3, qc_15_2, qc_17_2, sbA]; done) | (simp only [Int.reduceToNat, Int.toNat_natCast, tN_add, tN_add1, tN_sub1, gF_sF, gA_sF, gL_sF, gV_sF, gF_sA, gA_sA, gL_sA, gV_sA, gF_sB, gA_sB, gL_sB, gV_sB, gF_nA, gA_nA, gL_nA, gV_nA, gT_nA, gF_mV, gA_mV, gL_mV, gV_mV, gT_mV, gT_sB, gT_sA, gT_sF, gF_grw, gT_grw, gL_grw, gA_grw, elT, Nat.reduceEqDiff, eq_self, and_self, and_true, true_and, and_false, false_and, reduceIte, faA, qc_14_3, qc_15_2, qc_17_2, sbA, grl]; split <;> omega) | (show 2 * gL _ _ _ ≤ gL _ _ _; simp only [Int.reduceToNat, Int.toNat_natCast, tN_add, tN_add1, tN_sub1, gF_sF, gA_sF, gL_sF, gV_sF, gF_sA, gA_sA, gL_sA, gV_sA, gF_sB, gA_sB, gL_sB, gV_sB, gF_nA, gA_nA, gL_nA, gV_nA, gT_nA, gF_mV, gA_mV, gL_mV, gV_mV, gT_mV, gT_sB, gT_sA, gT_sF, gF_grw, gT_grw, gL_grw, gA_grw, elT, Nat.reduceEqDiff, eq_self, and_self, and_true, true_and, and_false, false_and, reduceIte, faA, qc_14_3, qc_15_2, qc_17_2, sbA]; omega))
        have hbt := hB.2.2.2.2.1 (M.length - 1) (by omega)
        have hst := b7 (M.length - 1) (by omega)
        refine c_seek5 (c := M.length) (l := nmT M (M.length - 1)) ?_ hB hT (Nat.le_refl _) ?_ hbt ?_ ?_ hx (fun d hd hd1 hd2 => ?_)
        all_goals (try first | exact rfl | exact True.intro | assumption | omega | (simp only [Int.reduceToNat, Int.toNat_natCast, tN_add, tN_add1, tN_sub1, gF_sF, gA_sF, gL_sF, gV_sF, gF_sA, gA_sA, gL_sA, gV_sA, gF_sB, gA_sB, gL_sB, gV_sB, gF_nA, gA_nA, gL_nA, gV_nA, gT_nA, gF_mV, gA_mV, gL_mV, gV_mV, gT_mV, gT_sB, gT_sA, gT_sF, gF_grw, gT_grw, gL_grw, gA_grw, elT, Nat.reduceEqDiff, eq_self, and_self, and_true, true_and, and_false, false_and, reduceIte, faA, qc_14_3, qc_15_2, qc_17_2, sbA]; omega) | (simp only [Int.reduceToNat, Int.toNat_natCast, tN_add, tN_add1, tN_sub1, gF_sF, gA_sF, gL_sF, gV_sF, gF_sA, gA_sA, gL_sA, gV_sA, gF_sB, gA_sB, gL_sB, gV_sB, gF_nA, gA_nA, gL_nA, gV_nA, gT_nA, gF_mV, gA_mV, gL_mV, gV_mV, gT_mV, gT_sB, gT_sA, gT_sF, gF_grw, gT_grw, gL_grw, gA_grw, elT, Nat.reduceEqDiff, eq_self, and_self, and_true, true_and, and_false, false_and, reduceIte, faA, qc_14_3, qc_15_2, qc_17_2, sbA]; done) | (simp only [Int.reduceToNat, Int.toNat_natCast, tN_add, tN_add1, tN_sub1, gF_sF, gA_sF, gL_sF, gV_sF, gF_sA, gA_sA, gL_sA, gV_sA, gF_sB, gA_sB, gL_sB, gV_sB, gF_nA, gA_nA, gL_nA, gV_nA, gT_nA, gF_mV, gA_mV, gL_mV, gV_mV, gT_mV, gT_sB, gT_sA, gT_sF, gF_grw, gT_grw, gL_grw, gA_grw, elT, Nat.reduceEqDiff, eq_self, and_self, and_true, true_and, and_false, false_and, reduceIte, faA, qc_14_3, qc_15_2, qc_17_2, sbA, grl]; split <;> omega) | (show 2 * gL _ _ _ ≤ gL _ _ _; simp only [Int.reduceToNat, Int.toNat_natCast, tN_add, tN_add1, tN_sub1, gF_sF, gA_sF, gL_sF, gV_sF, gF_sA, gA_sA, gL_sA, gV_sA, gF_sB, gA_sB, gL_sB, gV_sB, gF_nA, gA_nA, gL_nA, gV_nA, gT_nA, gF_mV, gA_mV, gL_mV, gV_mV, gT_mV, gT_sB, gT_sA, gT_sF, gF_grw, gT_grw, gL_grw, gA_grw, elT, Nat.reduceEqDiff, eq_self, and_self, and_true, true_and, and_false, false_and, reduceIte, faA, qc_14_3, qc_15_2, qc_17_2, sbA]; omega))
        · simp only [Int.reduceToNat, Int.toNat_natCast, tN_add, tN_add1, tN_sub1, gF_sF, gA_sF, gL_sF, gV_sF, gF_sA, gA_sA, gL_sA, gV_sA, gF_sB, gA_sB, gL_sB, gV_sB, gF_nA, gA_nA, gL_nA, gV_nA, gT_nA, gF_mV, gA_mV, gL_mV, gV_mV, gT_mV, gT_sB, gT_sA, gT_sF, gF_grw, gT_grw, gL_grw, gA_grw, elT, Nat.reduceEqDiff, eq_self, and_self, and_true, true_and, and_false, false_and, reduceIte, faA, qc_14_3, qc_15_2, qc_17_2, sbA]
          rw [e0, Int.toNat_natCast, hst]
        have hhit := tb_hit hT (M := fun e => nmT M (e - 1) = nmT M (M.length - 1)) (e := M.length) ⟨hpos, Nat.le_refl _⟩ rfl (fun eₚ h1 h2 => by
          have := h1.1
          have := h1.2
          have := nm_inj b9 (by omega) (by omega) h2
          omega) hd1 hd2
        have hsl := Nat.mod_lt (hsh (gL σ1 4 4) (nmT M (M.length - 1)) + d) (show 0 < gL σ1 4 4 by omega)
        repeat' (first | refine And.intro ?_ ?_ | (with_reducible intro c; try simp only [cmpI, cmpN, Classical.not_not, not_true_eq_false, not_false_eq_true, Int.reduceToNat, Int.toNat_natCast, tN_add, tN_add1, tN_sub1, gF_sF, gA_sF, gL_sF, gV_sF, gF_sA, gA_sA, gL_sA, gV_sA, gF_sB, gA_sB, gL_sB, gV_sB, gF_nA, gA_nA, gL_nA, gV_nA, gT_nA, gF_mV, gA_mV, gL_mV, gV_mV, gT_mV, gT_sB, gT_sA, gT_sF, gF_grw, gT_grw, gL_grw, gA_grw, elT, Nat.reduceEqDiff, eq_self, and_self, and_true, true_and, and_false, false_and, reduceIte, faA, qc_14_3, qc_15_2, qc_17_2, sbA] at c))
        all_goals (try first | exact rfl | exact True.intro | assumption | omega | (simp only [Int.reduceToNat, Int.toNat_natCast, tN_add, tN_add1, tN_sub1, gF_sF, gA_sF, gL_sF, gV_sF, gF_sA, gA_sA, gL_sA, gV_sA, gF_sB, gA_sB, gL_sB, gV_sB, gF_nA, gA_nA, gL_nA, gV_nA, gT_nA, gF_mV, gA_mV, gL_mV, gV_mV, gT_mV, gT_sB, gT_sA, gT_sF, gF_grw, gT_grw, gL_grw, gA_grw, elT, Nat.reduceEqDiff, eq_self, and_self, and_true, true_and, and_false, false_and, reduceIte, faA, qc_14_3, qc_15_2, qc_17_2, sbA]; omega) | (simp only [Int.reduceToNat, Int.toNat_natCast, tN_add, tN_add1, tN_sub1, gF_sF, gA_sF, gL_sF, gV_sF, gF_sA, gA_sA, gL_sA, gV_sA, gF_sB, gA_sB, gL_sB, gV_sB, gF_nA, gA_nA, gL_nA, gV_nA, gT_nA, gF_mV, gA_mV, gL_mV, gV_mV, gT_mV, gT_sB, gT_sA, gT_sF, gF_grw, gT_grw, gL_grw, gA_grw, elT, Nat.reduceEqDiff, eq_self, and_self, and_true, true_and, and_false, false_and, reduceIte, faA, qc_14_3, qc_15_2, qc_17_2, sbA]; done) | (simp only [Int.reduceToNat, Int.toNat_natCast, tN_add, tN_add1, tN_sub1, gF_sF, gA_sF, gL_sF, gV_sF, gF_sA, gA_sA, gL_sA, gV_sA, gF_sB, gA_sB, gL_sB, gV_sB, gF_nA, gA_nA, gL_nA, gV_nA, gT_nA, gF_mV, gA_mV, gL_mV, gV_mV, gT_mV, gT_sB, gT_sA, gT_sF, gF_grw, gT_grw, gL_grw, gA_grw, elT, Nat.reduceEqDiff, eq_self, and_self, and_true, true_and, and_false, false_and, reduceIte, faA, qc_14_3, qc_15_2, qc_17_2, sbA, grl]; split <;> omega) | (show 2 * gL _ _ _ ≤ gL _ _ _; simp only [Int.reduceToNat, Int.toNat_natCast, tN_add, tN_add1, tN_sub1, gF_sF, gA_sF, gL_sF, gV_sF, gF_sA, gA_sA, gL_sA, gV_sA, gF_sB, gA_sB, gL_sB, gV_sB, gF_nA, gA_nA, gL_nA, gV_nA, gT_nA, gF_mV, gA_mV, gL_mV, gV_mV, gT_mV, gT_sB, gT_sA, gT_sF, gF_grw, gT_grw, gL_grw, gA_grw, elT, Nat.reduceEqDiff, eq_self, and_self, and_true, true_and, and_false, false_and, reduceIte, faA, qc_14_3, qc_15_2, qc_17_2, sbA]; omega))
        have hlen : (M.take (M.length - 1)).length = M.length - 1 := by rw [List.length_take]; omega
        refine ih (M.take (M.length - 1)) _ _ ?_ ⟨nmB_take hB ?_ ?_ ?_ rfl rfl rfl rfl rfl, ?_, ?_⟩ ?_
        all_goals (try first | exact rfl | exact True.intro | assumption | omega | (simp only [Int.reduceToNat, Int.toNat_natCast, tN_add, tN_add1, tN_sub1, gF_sF, gA_sF, gL_sF, gV_sF, gF_sA, gA_sA, gL_sA, gV_sA, gF_sB, gA_sB, gL_sB, gV_sB, gF_nA, gA_nA, gL_nA, gV_nA, gT_nA, gF_mV, gA_mV, gL_mV, gV_mV, gT_mV, gT_sB, gT_sA, gT_sF, gF_grw, gT_grw, gL_grw, gA_grw, elT, Nat.reduceEqDiff, eq_self, and_self, and_true, true_and, and_false, false_and, reduceIte, faA, qc_14_3, qc_15_2, qc_17_2, sbA]; omega) | (simp only [Int.reduceToNat, Int.toNat_natCast, tN_add, tN_add1, tN_sub1, gF_sF, gA_sF, gL_sF, gV_sF, gF_sA, gA_sA, gL_sA, gV_sA, gF_sB, gA_sB, gL_sB, gV_sB, gF_nA, gA_nA, gL_nA, gV_nA, gT_nA, gF_mV, gA_mV, gL_mV, gV_mV, gT_mV, gT_sB, gT_sA, gT_sF, gF_grw, gT_grw, gL_grw, gA_grw, elT, Nat.reduceEqDiff, eq_self, and_self, and_true, true_and, and_false, false_and, reduceIte, faA, qc_14_3, qc_15_2, qc_17_2, sbA]; done) | (simp only [Int.reduceToNat, Int.toNat_natCast, tN_add, tN_add1, tN_sub1, gF_sF, gA_sF, gL_sF, gV_sF, gF_sA, gA_sA, gL_sA, gV_sA, gF_sB, gA_sB, gL_sB, gV_sB, gF_nA, gA_nA, gL_nA, gV_nA, gT_nA, gF_mV, gA_mV, gL_mV, gV_mV, gT_mV, gT_sB, gT_sA, gT_sF, gF_grw, gT_grw, gL_grw, gA_grw, elT, Nat.reduceEqDiff, eq_self, and_self, and_true, true_and, and_false, false_and, reduceIte, faA, qc_14_3, qc_15_2, qc_17_2, sbA, grl]; split <;> omega) | (show 2 * gL _ _ _ ≤ gL _ _ _; simp only [Int.reduceToNat, Int.toNat_natCast, tN_add, tN_add1, tN_sub1, gF_sF, gA_sF, gL_sF, gV_sF, gF_sA, gA_sA, gL_sA, gV_sA, gF_sB, gA_sB, gL_sB, gV_sB, gF_nA, gA_nA, gL_nA, gV_nA, gT_nA, gF_mV, gA_mV, gL_mV, gV_mV, gT_mV, gT_sB, gT_sA, gT_sF, gF_grw, gT_grw, gL_grw, gA_grw, elT, Nat.reduceEqDiff, eq_self, and_self, and_true, true_and, and_false, false_and, reduceIte, faA, qc_14_3, qc_15_2, qc_17_2, sbA]; omega))
        · simp only [Int.reduceToNat, Int.toNat_natCast, tN_add, tN_add1, tN_sub1, gF_sF, gA_sF, gL_sF, gV_sF, gF_sA, gA_sA, gL_sA, gV_sA, gF_sB, gA_sB, gL_sB, gV_sB, gF_nA, gA_nA, gL_nA, gV_nA, gT_nA, gF_mV, gA_mV, gL_mV, gV_mV, gT_mV, gT_sB, gT_sA, gT_sF, gF_grw, gT_grw, gL_grw, gA_grw, elT, Nat.reduceEqDiff, eq_self, and_self, and_true, true_and, and_false, false_and, reduceIte, faA, qc_14_3, qc_15_2, qc_17_2, sbA]
          rw [e0, Int.toNat_natCast, hst]
        · unfold NmT
          rw [hlen]
          refine tb_congr (tb_del hT hpos (fun eₚ h => h.2) hsl hhit) (fun s hs => ?_) (fun e => ?_) (fun e he => ?_)
          · simp only [Int.reduceToNat, Int.toNat_natCast, tN_add, tN_add1, tN_sub1, gF_sF, gA_sF, gL_sF, gV_sF, gF_sA, gA_sA, gL_sA, gV_sA, gF_sB, gA_sB, gL_sB, gV_sB, gF_nA, gA_nA, gL_nA, gV_nA, gT_nA, gF_mV, gA_mV, gL_mV, gV_mV, gT_mV, gT_sB, gT_sA, gT_sF, gF_grw, gT_grw, gL_grw, gA_grw, elT, Nat.reduceEqDiff, eq_self, and_self, and_true, true_and, and_false, false_and, reduceIte, faA, qc_14_3, qc_15_2, qc_17_2, sbA]
          · show 0 < e ∧ e ≤ M.length - 1 ↔ (0 < e ∧ e ≤ M.length) ∧ e ≠ M.length
            omega
          · rw [take_nmT (by have := he.1.2; have := he.2; have := he.1.1; omega)]
            rfl
        · rw [List.take_take, Nat.min_eq_left (by omega)]
          exact hMt
  refine ct_jx ?_
  exact loop (NS.length + 1) NS σ none (by omega) hN rfl
end
