/-! the methods, by keys; what a call asks of them -/
set_option maxRecDepth 100000
abbrev KX0_in : aK := (yX0_in, cX0_in, 6, (some .boolean), [], 1)
theorem kf_X0_in : aKf (KX0_in) := ⟨q230, q89, ⟨by decide, by decide⟩, by decide⟩
theorem ar_X0_in : (parseMethodDescriptor yX0_in.desc).map (fun d => d.parameters.length) = some 3 := by decide +kernel
abbrev KX0_asksPlace : aK := (yX0_asksPlace, cX0_asksPlace, 2, none, [], 1)
theorem kf_X0_asksPlace : aKf (KX0_asksPlace) := ⟨q457, q89, ⟨by decide, by decide⟩, by decide⟩
theorem ar_X0_asksPlace : (parseMethodDescriptor yX0_asksPlace.desc).map (fun d => d.parameters.length) = some 2 := by decide +kernel
abbrev KX0_thingAt : aK := (yX0_thingAt, cX0_thingAt, 2, (some (.object "java/lang/Object")), [], 2)
theorem kf_X0_thingAt : aKf (KX0_thingAt) := ⟨q454, q89, ⟨by decide, by decide⟩, by decide⟩
theorem ar_X0_thingAt : (parseMethodDescriptor yX0_thingAt.desc).map (fun d => d.parameters.length) = some 1 := by decide +kernel
abbrev KX0_leastBlock : aK := (yX0_leastBlock, cX0_leastBlock, 2, (some .int), [], 1)
theorem kf_X0_leastBlock : aKf (KX0_leastBlock) := ⟨q479, q89, ⟨by decide, by decide⟩, by decide⟩
theorem ar_X0_leastBlock : (parseMethodDescriptor yX0_leastBlock.desc).map (fun d => d.parameters.length) = some 0 := by decide +kernel
abbrev KX0_spaceOf : aK := (yX0_spaceOf, cX0_spaceOf, 5, (some .long), [], 1)
theorem kf_X0_spaceOf : aKf (KX0_spaceOf) := ⟨q483, q89, ⟨by decide, by decide⟩, by decide⟩
theorem ar_X0_spaceOf : (parseMethodDescriptor yX0_spaceOf.desc).map (fun d => d.parameters.length) = some 1 := by decide +kernel
abbrev KX5_mayHave : aK := (yX5_mayHave, cX5_mayHave, 3, (some .boolean), [], 1)
theorem kf_X5_mayHave : aKf (KX5_mayHave) := ⟨q492, q94, ⟨by decide, by decide⟩, by decide⟩
theorem ar_X5_mayHave : (parseMethodDescriptor yX5_mayHave.desc).map (fun d => d.parameters.length) = some 1 := by decide +kernel
abbrev KX6_mayHave : aK := (yX6_mayHave, cX6_mayHave, 3, (some .boolean), [], 2)
theorem kf_X6_mayHave : aKf (KX6_mayHave) := ⟨q490, q95, ⟨by decide, by decide⟩, by decide⟩
theorem ar_X6_mayHave : (parseMethodDescriptor yX6_mayHave.desc).map (fun d => d.parameters.length) = some 1 := by decide +kernel
abbrev KX4_prevMade : aK := (yX4_prevMade, cX4_prevMade, 1, (some .int), [], 1)
theorem kf_X4_prevMade : aKf (KX4_prevMade) := ⟨q503, q93, ⟨by decide, by decide⟩, by decide⟩
theorem ar_X4_prevMade : (parseMethodDescriptor yX4_prevMade.desc).map (fun d => d.parameters.length) = some 0 := by decide +kernel
abbrev KX0_frees : aK := (yX0_frees, cX0_frees, 2, none, [], 1)
theorem kf_X0_frees : aKf (KX0_frees) := ⟨q507, q89, ⟨by decide, by decide⟩, by decide⟩
theorem ar_X0_frees : (parseMethodDescriptor yX0_frees.desc).map (fun d => d.parameters.length) = some 1 := by decide +kernel
abbrev KX0_isLater : aK := (yX0_isLater, cX0_isLater, 3, (some .boolean), [], 1)
theorem kf_X0_isLater : aKf (KX0_isLater) := ⟨q515, q89, ⟨by decide, by decide⟩, by decide⟩
theorem ar_X0_isLater : (parseMethodDescriptor yX0_isLater.desc).map (fun d => d.parameters.length) = some 2 := by decide +kernel
abbrev KX0_dies : aK := (yX0_dies, cX0_dies, 4, none, [], 2)
theorem kf_X0_dies : aKf (KX0_dies) := ⟨q511, q89, ⟨by decide, by decide⟩, by decide⟩
theorem ar_X0_dies : (parseMethodDescriptor yX0_dies.desc).map (fun d => d.parameters.length) = some 2 := by decide +kernel
abbrev KX0_leaves : aK := (yX0_leaves, cX0_leaves, 4, none, [], 3)
theorem kf_X0_leaves : aKf (KX0_leaves) := ⟨q496, q89, ⟨by decide, by decide⟩, by decide⟩
theorem ar_X0_leaves : (parseMethodDescriptor yX0_leaves.desc).map (fun d => d.parameters.length) = some 2 := by decide +kernel
abbrev KX0_writes : aK := (yX0_writes, cX0_writes, 7, (some .int), [], 4)
theorem kf_X0_writes : aKf (KX0_writes) := ⟨q475, q89, ⟨by decide, by decide⟩, by decide⟩
theorem ar_X0_writes : (parseMethodDescriptor yX0_writes.desc).map (fun d => d.parameters.length) = some 3 := by decide +kernel
abbrev KX0_write : aK := (yX0_write, cX0_write, 5, (some .int), [(27, 41, 42, 53), (27, 41, 47, 169), (27, 41, 52, 171)], 5)
theorem kf_X0_write : aKf (KX0_write) := ⟨q319, q89, ⟨by decide, by decide⟩, by decide⟩
theorem ar_X0_write : (parseMethodDescriptor yX0_write.desc).map (fun d => d.parameters.length) = some 3 := by decide +kernel
abbrev KX0_erases : aK := (yX0_erases, cX0_erases, 4, (some .int), [], 4)
theorem kf_X0_erases : aKf (KX0_erases) := ⟨q523, q89, ⟨by decide, by decide⟩, by decide⟩
theorem ar_X0_erases : (parseMethodDescriptor yX0_erases.desc).map (fun d => d.parameters.length) = some 2 := by decide +kernel
abbrev KX0_erase : aK := (yX0_erase, cX0_erase, 4, (some .int), [(15, 28, 29, 53), (15, 28, 33, 169), (15, 28, 37, 171)], 5)
theorem kf_X0_erase : aKf (KX0_erase) := ⟨q519, q89, ⟨by decide, by decide⟩, by decide⟩
theorem ar_X0_erase : (parseMethodDescriptor yX0_erase.desc).map (fun d => d.parameters.length) = some 2 := by decide +kernel
abbrev KX0_leastThing : aK := (yX0_leastThing, cX0_leastThing, 2, (some .int), [], 1)
theorem kf_X0_leastThing : aKf (KX0_leastThing) := ⟨q234, q89, ⟨by decide, by decide⟩, by decide⟩
theorem ar_X0_leastThing : (parseMethodDescriptor yX0_leastThing.desc).map (fun d => d.parameters.length) = some 0 := by decide +kernel
abbrev KX4_init : aK := (yX4_init, cX4_init, 4, none, [], 1)
theorem kf_X4_init : aKf (KX4_init) := ⟨q242, q93, ⟨by decide, by decide⟩, by decide⟩
theorem ar_X4_init : (parseMethodDescriptor yX4_init.desc).map (fun d => d.parameters.length) = some 2 := by decide +kernel
abbrev KX4_takesSlots : aK := (yX4_takesSlots, cX4_takesSlots, 3, none, [], 1)
theorem kf_X4_takesSlots : aKf (KX4_takesSlots) := ⟨q547, q93, ⟨by decide, by decide⟩, by decide⟩
theorem ar_X4_takesSlots : (parseMethodDescriptor yX4_takesSlots.desc).map (fun d => d.parameters.length) = some 1 := by decide +kernel
abbrev KX4_takesDead : aK := (yX4_takesDead, cX4_takesDead, 3, none, [], 1)
theorem kf_X4_takesDead : aKf (KX4_takesDead) := ⟨q554, q93, ⟨by decide, by decide⟩, by decide⟩
theorem ar_X4_takesDead : (parseMethodDescriptor yX4_takesDead.desc).map (fun d => d.parameters.length) = some 1 := by decide +kernel
abbrev KX7_init : aK := (yX7_init, cX7_init, 3, none, [], 2)
theorem kf_X7_init : aKf (KX7_init) := ⟨q539, q104, ⟨by decide, by decide⟩, by decide⟩
theorem ar_X7_init : (parseMethodDescriptor yX7_init.desc).map (fun d => d.parameters.length) = some 2 := by decide +kernel
abbrev KX8_init : aK := (yX8_init, cX8_init, 3, none, [], 3)
theorem kf_X8_init : aKf (KX8_init) := ⟨q536, q105, ⟨by decide, by decide⟩, by decide⟩
theorem ar_X8_init : (parseMethodDescriptor yX8_init.desc).map (fun d => d.parameters.length) = some 2 := by decide +kernel
abbrev KX0_takesPlace : aK := (yX0_takesPlace, cX0_takesPlace, 3, (some .int), [], 2)
theorem kf_X0_takesPlace : aKf (KX0_takesPlace) := ⟨q315, q89, ⟨by decide, by decide⟩, by decide⟩
theorem ar_X0_takesPlace : (parseMethodDescriptor yX0_takesPlace.desc).map (fun d => d.parameters.length) = some 1 := by decide +kernel
abbrev KX0_snaps : aK := (yX0_snaps, cX0_snaps, 6, (some .int), [], 4)
theorem kf_X0_snaps : aKf (KX0_snaps) := ⟨q531, q89, ⟨by decide, by decide⟩, by decide⟩
theorem ar_X0_snaps : (parseMethodDescriptor yX0_snaps.desc).map (fun d => d.parameters.length) = some 2 := by decide +kernel
abbrev KX0_snap : aK := (yX0_snap, cX0_snap, 4, (some .int), [(13, 35, 36, 53), (13, 35, 40, 169), (13, 35, 44, 171)], 5)
theorem kf_X0_snap : aKf (KX0_snap) := ⟨q527, q89, ⟨by decide, by decide⟩, by decide⟩
theorem ar_X0_snap : (parseMethodDescriptor yX0_snap.desc).map (fun d => d.parameters.length) = some 2 := by decide +kernel
abbrev KX0_snapshotAt : aK := (yX0_snapshotAt, cX0_snapshotAt, 2, (some (.object "DeadListPool$Snapshot")), [], 2)
theorem kf_X0_snapshotAt : aKf (KX0_snapshotAt) := ⟨q635, q89, ⟨by decide, by decide⟩, by decide⟩
theorem ar_X0_snapshotAt : (parseMethodDescriptor yX0_snapshotAt.desc).map (fun d => d.parameters.length) = some 1 := by decide +kernel
abbrev KX0_ownMany : aK := (yX0_ownMany, cX0_ownMany, 4, (some .int), [], 3)
theorem kf_X0_ownMany : aKf (KX0_ownMany) := ⟨q631, q89, ⟨by decide, by decide⟩, by decide⟩
theorem ar_X0_ownMany : (parseMethodDescriptor yX0_ownMany.desc).map (fun d => d.parameters.length) = some 1 := by decide +kernel
abbrev KX0_freesLive : aK := (yX0_freesLive, cX0_freesLive, 4, (some .int), [], 2)
theorem kf_X0_freesLive : aKf (KX0_freesLive) := ⟨q639, q89, ⟨by decide, by decide⟩, by decide⟩
theorem ar_X0_freesLive : (parseMethodDescriptor yX0_freesLive.desc).map (fun d => d.parameters.length) = some 1 := by decide +kernel
abbrev KX0_removesFiles : aK := (yX0_removesFiles, cX0_removesFiles, 2, (some .int), [], 4)
theorem kf_X0_removesFiles : aKf (KX0_removesFiles) := ⟨q627, q89, ⟨by decide, by decide⟩, by decide⟩
theorem ar_X0_removesFiles : (parseMethodDescriptor yX0_removesFiles.desc).map (fun d => d.parameters.length) = some 1 := by decide +kernel
abbrev KX4_tags : aK := (yX4_tags, cX4_tags, 1, (some .int), [], 1)
theorem kf_X4_tags : aKf (KX4_tags) := ⟨q650, q93, ⟨by decide, by decide⟩, by decide⟩
theorem ar_X4_tags : (parseMethodDescriptor yX4_tags.desc).map (fun d => d.parameters.length) = some 0 := by decide +kernel
abbrev KX8_tags : aK := (yX8_tags, cX8_tags, 1, (some .int), [], 1)
theorem kf_X8_tags : aKf (KX8_tags) := ⟨q587, q105, ⟨by decide, by decide⟩, by decide⟩
theorem ar_X8_tags : (parseMethodDescriptor yX8_tags.desc).map (fun d => d.parameters.length) = some 0 := by decide +kernel
abbrev KX0_holderAt : aK := (yX0_holderAt, cX0_holderAt, 2, (some (.object "DeadListPool$Holder")), [], 2)
theorem kf_X0_holderAt : aKf (KX0_holderAt) := ⟨q658, q89, ⟨by decide, by decide⟩, by decide⟩
theorem ar_X0_holderAt : (parseMethodDescriptor yX0_holderAt.desc).map (fun d => d.parameters.length) = some 1 := by decide +kernel
abbrev KX0_nextMany : aK := (yX0_nextMany, cX0_nextMany, 4, (some .int), [], 3)
theorem kf_X0_nextMany : aKf (KX0_nextMany) := ⟨q654, q89, ⟨by decide, by decide⟩, by decide⟩
theorem ar_X0_nextMany : (parseMethodDescriptor yX0_nextMany.desc).map (fun d => d.parameters.length) = some 1 := by decide +kernel
abbrev KX0_isLoose : aK := (yX0_isLoose, cX0_isLoose, 2, (some .boolean), [], 4)
theorem kf_X0_isLoose : aKf (KX0_isLoose) := ⟨q643, q89, ⟨by decide, by decide⟩, by decide⟩
theorem ar_X0_isLoose : (parseMethodDescriptor yX0_isLoose.desc).map (fun d => d.parameters.length) = some 1 := by decide +kernel
abbrev KX0_nextOf : aK := (yX0_nextOf, cX0_nextOf, 4, (some (.object "DeadListPool$Holder")), [], 3)
theorem kf_X0_nextOf : aKf (KX0_nextOf) := ⟨q667, q89, ⟨by decide, by decide⟩, by decide⟩
theorem ar_X0_nextOf : (parseMethodDescriptor yX0_nextOf.desc).map (fun d => d.parameters.length) = some 1 := by decide +kernel
abbrev KX0_merges : aK := (yX0_merges, cX0_merges, 8, none, [], 2)
theorem kf_X0_merges : aKf (KX0_merges) := ⟨q675, q89, ⟨by decide, by decide⟩, by decide⟩
theorem ar_X0_merges : (parseMethodDescriptor yX0_merges.desc).map (fun d => d.parameters.length) = some 3 := by decide +kernel
abbrev KX0_removes : aK := (yX0_removes, cX0_removes, 4, (some .int), [], 4)
theorem kf_X0_removes : aKf (KX0_removes) := ⟨q663, q89, ⟨by decide, by decide⟩, by decide⟩
theorem ar_X0_removes : (parseMethodDescriptor yX0_removes.desc).map (fun d => d.parameters.length) = some 1 := by decide +kernel
abbrev KX0_remove : aK := (yX0_remove, cX0_remove, 3, (some .int), [], 5)
theorem kf_X0_remove : aKf (KX0_remove) := ⟨q622, q89, ⟨by decide, by decide⟩, by decide⟩
theorem ar_X0_remove : (parseMethodDescriptor yX0_remove.desc).map (fun d => d.parameters.length) = some 1 := by decide +kernel
abbrev KX5_init : aK := (yX5_init, cX5_init, 3, none, [], 2)
theorem kf_X5_init : aKf (KX5_init) := ⟨q239, q94, ⟨by decide, by decide⟩, by decide⟩
theorem ar_X5_init : (parseMethodDescriptor yX5_init.desc).map (fun d => d.parameters.length) = some 2 := by decide +kernel
abbrev KX0_forks : aK := (yX0_forks, cX0_forks, 4, (some .int), [], 3)
theorem kf_X0_forks : aKf (KX0_forks) := ⟨q614, q89, ⟨by decide, by decide⟩, by decide⟩
theorem ar_X0_forks : (parseMethodDescriptor yX0_forks.desc).map (fun d => d.parameters.length) = some 1 := by decide +kernel
abbrev KX0_fork : aK := (yX0_fork, cX0_fork, 3, (some .int), [(0, 12, 13, 53), (0, 12, 17, 169), (0, 12, 21, 171)], 4)
theorem kf_X0_fork : aKf (KX0_fork) := ⟨q610, q89, ⟨by decide, by decide⟩, by decide⟩
theorem ar_X0_fork : (parseMethodDescriptor yX0_fork.desc).map (fun d => d.parameters.length) = some 1 := by decide +kernel
abbrev KX0_originOf : aK := (yX0_originOf, cX0_originOf, 2, (some (.object "DeadListPool$Snapshot")), [], 1)
theorem kf_X0_originOf : aKf (KX0_originOf) := ⟨q686, q89, ⟨by decide, by decide⟩, by decide⟩
theorem ar_X0_originOf : (parseMethodDescriptor yX0_originOf.desc).map (fun d => d.parameters.length) = some 1 := by decide +kernel
abbrev KX0_promotes : aK := (yX0_promotes, cX0_promotes, 6, (some .int), [], 2)
theorem kf_X0_promotes : aKf (KX0_promotes) := ⟨q683, q89, ⟨by decide, by decide⟩, by decide⟩
theorem ar_X0_promotes : (parseMethodDescriptor yX0_promotes.desc).map (fun d => d.parameters.length) = some 1 := by decide +kernel
abbrev KX0_promote : aK := (yX0_promote, cX0_promote, 3, (some .int), [(0, 12, 13, 53), (0, 12, 17, 169), (0, 12, 21, 171)], 3)
theorem kf_X0_promote : aKf (KX0_promote) := ⟨q679, q89, ⟨by decide, by decide⟩, by decide⟩
theorem ar_X0_promote : (parseMethodDescriptor yX0_promote.desc).map (fun d => d.parameters.length) = some 1 := by decide +kernel
abbrev KX0_rollsBack : aK := (yX0_rollsBack, cX0_rollsBack, 3, (some .int), [], 3)
theorem kf_X0_rollsBack : aKf (KX0_rollsBack) := ⟨q694, q89, ⟨by decide, by decide⟩, by decide⟩
theorem ar_X0_rollsBack : (parseMethodDescriptor yX0_rollsBack.desc).map (fun d => d.parameters.length) = some 1 := by decide +kernel
abbrev KX0_rollback : aK := (yX0_rollback, cX0_rollback, 3, (some .int), [(0, 12, 13, 53), (0, 12, 17, 169), (0, 12, 21, 171)], 4)
theorem kf_X0_rollback : aKf (KX0_rollback) := ⟨q690, q89, ⟨by decide, by decide⟩, by decide⟩
theorem ar_X0_rollback : (parseMethodDescriptor yX0_rollback.desc).map (fun d => d.parameters.length) = some 1 := by decide +kernel
abbrev KX6_init : aK := (yX6_init, cX6_init, 3, none, [], 3)
theorem kf_X6_init : aKf (KX6_init) := ⟨q300, q95, ⟨by decide, by decide⟩, by decide⟩
theorem ar_X6_init : (parseMethodDescriptor yX6_init.desc).map (fun d => d.parameters.length) = some 2 := by decide +kernel
abbrev KX0_files : aK := (yX0_files, cX0_files, 2, (some .int), [], 4)
theorem kf_X0_files : aKf (KX0_files) := ⟨q225, q89, ⟨by decide, by decide⟩, by decide⟩
theorem ar_X0_files : (parseMethodDescriptor yX0_files.desc).map (fun d => d.parameters.length) = some 1 := by decide +kernel
abbrev KX0_acts : aK := (yX0_acts, cX0_acts, 4, (some .int), [], 6)
theorem kf_X0_acts : aKf (KX0_acts) := ⟨q977, q89, ⟨by decide, by decide⟩, by decide⟩
theorem ar_X0_acts : (parseMethodDescriptor yX0_acts.desc).map (fun d => d.parameters.length) = some 3 := by decide +kernel
abbrev KX0_liveAlone : aK := (yX0_liveAlone, cX0_liveAlone, 6, (some .long), [], 2)
theorem kf_X0_liveAlone : aKf (KX0_liveAlone) := ⟨q846, q89, ⟨by decide, by decide⟩, by decide⟩
theorem ar_X0_liveAlone : (parseMethodDescriptor yX0_liveAlone.desc).map (fun d => d.parameters.length) = some 1 := by decide +kernel
abbrev KX0_deadBetween : aK := (yX0_deadBetween, cX0_deadBetween, 8, (some .long), [], 1)
theorem kf_X0_deadBetween : aKf (KX0_deadBetween) := ⟨q801, q89, ⟨by decide, by decide⟩, by decide⟩
theorem ar_X0_deadBetween : (parseMethodDescriptor yX0_deadBetween.desc).map (fun d => d.parameters.length) = some 3 := by decide +kernel
abbrev KX0_rangeByLists : aK := (yX0_rangeByLists, cX0_rangeByLists, 6, (some .long), [], 4)
theorem kf_X0_rangeByLists : aKf (KX0_rangeByLists) := ⟨q820, q89, ⟨by decide, by decide⟩, by decide⟩
theorem ar_X0_rangeByLists : (parseMethodDescriptor yX0_rangeByLists.desc).map (fun d => d.parameters.length) = some 2 := by decide +kernel
abbrev KX4_holds : aK := (yX4_holds, cX4_holds, 3, (some .boolean), [], 1)
theorem kf_X4_holds : aKf (KX4_holds) := ⟨q777, q93, ⟨by decide, by decide⟩, by decide⟩
theorem ar_X4_holds : (parseMethodDescriptor yX4_holds.desc).map (fun d => d.parameters.length) = some 1 := by decide +kernel
abbrev KX0_isOnWay : aK := (yX0_isOnWay, cX0_isOnWay, 5, (some .boolean), [], 1)
theorem kf_X0_isOnWay : aKf (KX0_isOnWay) := ⟨q838, q89, ⟨by decide, by decide⟩, by decide⟩
theorem ar_X0_isOnWay : (parseMethodDescriptor yX0_isOnWay.desc).map (fun d => d.parameters.length) = some 3 := by decide +kernel
abbrev KX0_isHeldOutside : aK := (yX0_isHeldOutside, cX0_isHeldOutside, 6, (some .boolean), [], 3)
theorem kf_X0_isHeldOutside : aKf (KX0_isHeldOutside) := ⟨q834, q89, ⟨by decide, by decide⟩, by decide⟩
theorem ar_X0_isHeldOutside : (parseMethodDescriptor yX0_isHeldOutside.desc).map (fun d => d.parameters.length) = some 3 := by decide +kernel
abbrev KX0_rangeByBlocks : aK := (yX0_rangeByBlocks, cX0_rangeByBlocks, 10, (some .long), [], 4)
theorem kf_X0_rangeByBlocks : aKf (KX0_rangeByBlocks) := ⟨q825, q89, ⟨by decide, by decide⟩, by decide⟩
theorem ar_X0_rangeByBlocks : (parseMethodDescriptor yX0_rangeByBlocks.desc).map (fun d => d.parameters.length) = some 2 := by decide +kernel
abbrev KX0_rangeOf : aK := (yX0_rangeOf, cX0_rangeOf, 5, (some .long), [], 5)
theorem kf_X0_rangeOf : aKf (KX0_rangeOf) := ⟨q816, q89, ⟨by decide, by decide⟩, by decide⟩
theorem ar_X0_rangeOf : (parseMethodDescriptor yX0_rangeOf.desc).map (fun d => d.parameters.length) = some 2 := by decide +kernel
abbrev KX0_alone : aK := (yX0_alone, cX0_alone, 3, (some .long), [], 6)
theorem kf_X0_alone : aKf (KX0_alone) := ⟨q842, q89, ⟨by decide, by decide⟩, by decide⟩
theorem ar_X0_alone : (parseMethodDescriptor yX0_alone.desc).map (fun d => d.parameters.length) = some 1 := by decide +kernel
abbrev KX0_lengthOf : aK := (yX0_lengthOf, cX0_lengthOf, 2, (some .int), [], 1)
theorem kf_X0_lengthOf : aKf (KX0_lengthOf) := ⟨q940, q89, ⟨by decide, by decide⟩, by decide⟩
theorem ar_X0_lengthOf : (parseMethodDescriptor yX0_lengthOf.desc).map (fun d => d.parameters.length) = some 2 := by decide +kernel
abbrev KX0_itemOf : aK := (yX0_itemOf, cX0_itemOf, 3, (some .long), [], 2)
theorem kf_X0_itemOf : aKf (KX0_itemOf) := ⟨q937, q89, ⟨by decide, by decide⟩, by decide⟩
theorem ar_X0_itemOf : (parseMethodDescriptor yX0_itemOf.desc).map (fun d => d.parameters.length) = some 3 := by decide +kernel
abbrev KX0_applies : aK := (yX0_applies, cX0_applies, 13, (some .int), [], 5)
theorem kf_X0_applies : aKf (KX0_applies) := ⟨q960, q89, ⟨by decide, by decide⟩, by decide⟩
theorem ar_X0_applies : (parseMethodDescriptor yX0_applies.desc).map (fun d => d.parameters.length) = some 3 := by decide +kernel
abbrev KX0_isSheet : aK := (yX0_isSheet, cX0_isSheet, 1, (some .boolean), [], 2)
theorem kf_X0_isSheet : aKf (KX0_isSheet) := ⟨q916, q89, ⟨by decide, by decide⟩, by decide⟩
theorem ar_X0_isSheet : (parseMethodDescriptor yX0_isSheet.desc).map (fun d => d.parameters.length) = some 1 := by decide +kernel
abbrev KX0_apply : aK := (yX0_apply, cX0_apply, 5, (some .int), [(20, 42, 43, 53), (20, 42, 48, 169), (20, 42, 53, 171)], 6)
theorem kf_X0_apply : aKf (KX0_apply) := ⟨q956, q89, ⟨by decide, by decide⟩, by decide⟩
theorem ar_X0_apply : (parseMethodDescriptor yX0_apply.desc).map (fun d => d.parameters.length) = some 3 := by decide +kernel
abbrev KX7_tagsAre : aK := (yX7_tagsAre, cX7_tagsAre, 2, none, [], 1)
theorem kf_X7_tagsAre : aKf (KX7_tagsAre) := ⟨q1014, q104, ⟨by decide, by decide⟩, by decide⟩
theorem ar_X7_tagsAre : (parseMethodDescriptor yX7_tagsAre.desc).map (fun d => d.parameters.length) = some 1 := by decide +kernel
abbrev KX8_tagsAre : aK := (yX8_tagsAre, cX8_tagsAre, 2, none, [], 1)
theorem kf_X8_tagsAre : aKf (KX8_tagsAre) := ⟨q591, q105, ⟨by decide, by decide⟩, by decide⟩
theorem ar_X8_tagsAre : (parseMethodDescriptor yX8_tagsAre.desc).map (fun d => d.parameters.length) = some 1 := by decide +kernel
abbrev KX0_laysOneBack : aK := (yX0_laysOneBack, cX0_laysOneBack, 4, none, [], 2)
theorem kf_X0_laysOneBack : aKf (KX0_laysOneBack) := ⟨q1008, q89, ⟨by decide, by decide⟩, by decide⟩
theorem ar_X0_laysOneBack : (parseMethodDescriptor yX0_laysOneBack.desc).map (fun d => d.parameters.length) = some 3 := by decide +kernel
abbrev KX0_laysBack : aK := (yX0_laysBack, cX0_laysBack, 3, none, [], 3)
theorem kf_X0_laysBack : aKf (KX0_laysBack) := ⟨q1005, q89, ⟨by decide, by decide⟩, by decide⟩
theorem ar_X0_laysBack : (parseMethodDescriptor yX0_laysBack.desc).map (fun d => d.parameters.length) = some 1 := by decide +kernel
abbrev KX0_thingMany : aK := (yX0_thingMany, cX0_thingMany, 3, (some .int), [], 1)
theorem kf_X0_thingMany : aKf (KX0_thingMany) := ⟨q993, q89, ⟨by decide, by decide⟩, by decide⟩
theorem ar_X0_thingMany : (parseMethodDescriptor yX0_thingMany.desc).map (fun d => d.parameters.length) = some 0 := by decide +kernel
abbrev KX0_back : aK := (yX0_back, cX0_back, 1, (some .int), [], 4)
theorem kf_X0_back : aKf (KX0_back) := ⟨q1022, q89, ⟨by decide, by decide⟩, by decide⟩
theorem ar_X0_back : (parseMethodDescriptor yX0_back.desc).map (fun d => d.parameters.length) = some 0 := by decide +kernel
abbrev KX0_holdersOf : aK := (yX0_holdersOf, cX0_holdersOf, 4, (some .int), [], 3)
theorem kf_X0_holdersOf : aKf (KX0_holdersOf) := ⟨q769, q89, ⟨by decide, by decide⟩, by decide⟩
theorem ar_X0_holdersOf : (parseMethodDescriptor yX0_holdersOf.desc).map (fun d => d.parameters.length) = some 1 := by decide +kernel
abbrev KX0_block : aK := (yX0_block, cX0_block, 3, (some .int), [], 4)
theorem kf_X0_block : aKf (KX0_block) := ⟨q763, q89, ⟨by decide, by decide⟩, by decide⟩
theorem ar_X0_block : (parseMethodDescriptor yX0_block.desc).map (fun d => d.parameters.length) = some 2 := by decide +kernel
abbrev KX0_blockMany : aK := (yX0_blockMany, cX0_blockMany, 3, (some .int), [], 1)
theorem kf_X0_blockMany : aKf (KX0_blockMany) := ⟨q997, q89, ⟨by decide, by decide⟩, by decide⟩
theorem ar_X0_blockMany : (parseMethodDescriptor yX0_blockMany.desc).map (fun d => d.parameters.length) = some 0 := by decide +kernel
abbrev KX0_put : aK := (yX0_put, cX0_put, 4, (some .int), [], 2)
theorem kf_X0_put : aKf (KX0_put) := ⟨q928, q89, ⟨by decide, by decide⟩, by decide⟩
theorem ar_X0_put : (parseMethodDescriptor yX0_put.desc).map (fun d => d.parameters.length) = some 3 := by decide +kernel
abbrev KX0_cell : aK := (yX0_cell, cX0_cell, 6, (some .int), [(10, 24, 25, 169), (10, 24, 30, 53)], 3)
theorem kf_X0_cell : aKf (KX0_cell) := ⟨q925, q89, ⟨by decide, by decide⟩, by decide⟩
theorem ar_X0_cell : (parseMethodDescriptor yX0_cell.desc).map (fun d => d.parameters.length) = some 3 := by decide +kernel
abbrev KX0_common : aK := (yX0_common, cX0_common, 9, (some .long), [], 3)
theorem kf_X0_common : aKf (KX0_common) := ⟨q854, q89, ⟨by decide, by decide⟩, by decide⟩
theorem ar_X0_common : (parseMethodDescriptor yX0_common.desc).map (fun d => d.parameters.length) = some 2 := by decide +kernel
abbrev KX0_count : aK := (yX0_count, cX0_count, 2, (some .int), [], 2)
theorem kf_X0_count : aKf (KX0_count) := ⟨q1026, q89, ⟨by decide, by decide⟩, by decide⟩
theorem ar_X0_count : (parseMethodDescriptor yX0_count.desc).map (fun d => d.parameters.length) = some 1 := by decide +kernel
abbrev KX0_deadOf : aK := (yX0_deadOf, cX0_deadOf, 2, (some .int), [], 1)
theorem kf_X0_deadOf : aKf (KX0_deadOf) := ⟨q792, q89, ⟨by decide, by decide⟩, by decide⟩
theorem ar_X0_deadOf : (parseMethodDescriptor yX0_deadOf.desc).map (fun d => d.parameters.length) = some 2 := by decide +kernel
abbrev KX0_dead : aK := (yX0_dead, cX0_dead, 4, (some .int), [(15, 27, 28, 53), (15, 27, 32, 169), (15, 27, 36, 171)], 3)
theorem kf_X0_dead : aKf (KX0_dead) := ⟨q789, q89, ⟨by decide, by decide⟩, by decide⟩
theorem ar_X0_dead : (parseMethodDescriptor yX0_dead.desc).map (fun d => d.parameters.length) = some 2 := by decide +kernel
abbrev KX0_deadList : aK := (yX0_deadList, cX0_deadList, 6, (some .long), [], 3)
theorem kf_X0_deadList : aKf (KX0_deadList) := ⟨q796, q89, ⟨by decide, by decide⟩, by decide⟩
theorem ar_X0_deadList : (parseMethodDescriptor yX0_deadList.desc).map (fun d => d.parameters.length) = some 2 := by decide +kernel
abbrev KX0_holderAsked : aK := (yX0_holderAsked, cX0_holderAsked, 4, (some (.object "DeadListPool$Holder")), [], 3)
theorem kf_X0_holderAsked : aKf (KX0_holderAsked) := ⟨q948, q89, ⟨by decide, by decide⟩, by decide⟩
theorem ar_X0_holderAsked : (parseMethodDescriptor yX0_holderAsked.desc).map (fun d => d.parameters.length) = some 1 := by decide +kernel
abbrev KX0_differs : aK := (yX0_differs, cX0_differs, 8, (some .int), [], 1)
theorem kf_X0_differs : aKf (KX0_differs) := ⟨q952, q89, ⟨by decide, by decide⟩, by decide⟩
theorem ar_X0_differs : (parseMethodDescriptor yX0_differs.desc).map (fun d => d.parameters.length) = some 3 := by decide +kernel
abbrev KX0_differ : aK := (yX0_differ, cX0_differ, 5, (some .int), [(10, 29, 30, 53), (10, 29, 35, 169), (10, 29, 40, 171)], 4)
theorem kf_X0_differ : aKf (KX0_differ) := ⟨q944, q89, ⟨by decide, by decide⟩, by decide⟩
theorem ar_X0_differ : (parseMethodDescriptor yX0_differ.desc).map (fun d => d.parameters.length) = some 3 := by decide +kernel
abbrev KX0_keepsOne : aK := (yX0_keepsOne, cX0_keepsOne, 4, none, [], 2)
theorem kf_X0_keepsOne : aKf (KX0_keepsOne) := ⟨q972, q89, ⟨by decide, by decide⟩, by decide⟩
theorem ar_X0_keepsOne : (parseMethodDescriptor yX0_keepsOne.desc).map (fun d => d.parameters.length) = some 3 := by decide +kernel
abbrev KX0_keeps : aK := (yX0_keeps, cX0_keeps, 3, none, [], 3)
theorem kf_X0_keeps : aKf (KX0_keeps) := ⟨q969, q89, ⟨by decide, by decide⟩, by decide⟩
theorem ar_X0_keeps : (parseMethodDescriptor yX0_keeps.desc).map (fun d => d.parameters.length) = some 1 := by decide +kernel
abbrev KX0_sizeOfAll : aK := (yX0_sizeOfAll, cX0_sizeOfAll, 4, (some .long), [], 1)
theorem kf_X0_sizeOfAll : aKf (KX0_sizeOfAll) := ⟨q1001, q89, ⟨by decide, by decide⟩, by decide⟩
theorem ar_X0_sizeOfAll : (parseMethodDescriptor yX0_sizeOfAll.desc).map (fun d => d.parameters.length) = some 0 := by decide +kernel
abbrev KX0_thenTold : aK := (yX0_thenTold, cX0_thenTold, 3, (some .long), [], 2)
theorem kf_X0_thenTold : aKf (KX0_thenTold) := ⟨q989, q89, ⟨by decide, by decide⟩, by decide⟩
theorem ar_X0_thenTold : (parseMethodDescriptor yX0_thenTold.desc).map (fun d => d.parameters.length) = some 2 := by decide +kernel
abbrev KX0_drawn : aK := (yX0_drawn, cX0_drawn, 11, (some .long), [(45, 135, 146, 0), (146, 148, 146, 0)], 7)
theorem kf_X0_drawn : aKf (KX0_drawn) := ⟨q964, q89, ⟨by decide, by decide⟩, by decide⟩
theorem ar_X0_drawn : (parseMethodDescriptor yX0_drawn.desc).map (fun d => d.parameters.length) = some 3 := by decide +kernel
abbrev KX0_gathers : aK := (yX0_gathers, cX0_gathers, 4, (some .int), [], 1)
theorem kf_X0_gathers : aKf (KX0_gathers) := ⟨q867, q89, ⟨by decide, by decide⟩, by decide⟩
theorem ar_X0_gathers : (parseMethodDescriptor yX0_gathers.desc).map (fun d => d.parameters.length) = some 1 := by decide +kernel
abbrev KX0_expires : aK := (yX0_expires, cX0_expires, 7, (some .int), [], 5)
theorem kf_X0_expires : aKf (KX0_expires) := ⟨q895, q89, ⟨by decide, by decide⟩, by decide⟩
theorem ar_X0_expires : (parseMethodDescriptor yX0_expires.desc).map (fun d => d.parameters.length) = some 3 := by decide +kernel
abbrev KX0_expire : aK := (yX0_expire, cX0_expire, 5, (some .int), [(27, 41, 42, 53), (27, 41, 47, 169), (27, 41, 52, 171)], 6)
theorem kf_X0_expire : aKf (KX0_expire) := ⟨q889, q89, ⟨by decide, by decide⟩, by decide⟩
theorem ar_X0_expire : (parseMethodDescriptor yX0_expire.desc).map (fun d => d.parameters.length) = some 3 := by decide +kernel
abbrev KX0_mostFrom (d : Nat) : aK := (yX0_mostFrom, cX0_mostFrom, 7, (some .long), [], 6 + d)
theorem kf_X0_mostFrom (d : Nat) : aKf (KX0_mostFrom d) := ⟨q874, q89, ⟨by show RX0 ≠ _; decide, by show RX0 ≠ _; decide⟩, by show 7 ≤ 41; decide⟩
theorem ar_X0_mostFrom : (parseMethodDescriptor yX0_mostFrom.desc).map (fun d => d.parameters.length) = some 3 := by decide +kernel
abbrev KX0_mostOf : aK := (yX0_mostOf, cX0_mostOf, 4, (some .long), [], 16)
theorem kf_X0_mostOf : aKf (KX0_mostOf) := ⟨q863, q89, ⟨by decide, by decide⟩, by decide⟩
theorem ar_X0_mostOf : (parseMethodDescriptor yX0_mostOf.desc).map (fun d => d.parameters.length) = some 2 := by decide +kernel
abbrev KX0_fewestOf : aK := (yX0_fewestOf, cX0_fewestOf, 6, (some .int), [], 17)
theorem kf_X0_fewestOf : aKf (KX0_fewestOf) := ⟨q885, q89, ⟨by decide, by decide⟩, by decide⟩
theorem ar_X0_fewestOf : (parseMethodDescriptor yX0_fewestOf.desc).map (fun d => d.parameters.length) = some 2 := by decide +kernel
abbrev KX0_fewest : aK := (yX0_fewest, cX0_fewest, 5, (some .int), [(0, 13, 14, 53), (0, 13, 19, 169), (0, 13, 24, 171)], 18)
theorem kf_X0_fewest : aKf (KX0_fewest) := ⟨q881, q89, ⟨by decide, by decide⟩, by decide⟩
theorem ar_X0_fewest : (parseMethodDescriptor yX0_fewest.desc).map (fun d => d.parameters.length) = some 2 := by decide +kernel
abbrev KX0_image : aK := (yX0_image, cX0_image, 1, (some .int), [], 4)
theorem kf_X0_image : aKf (KX0_image) := ⟨q1018, q89, ⟨by decide, by decide⟩, by decide⟩
theorem ar_X0_image : (parseMethodDescriptor yX0_image.desc).map (fun d => d.parameters.length) = some 0 := by decide +kernel
abbrev KX1_init : aK := (yX1_init, cX1_init, 1, none, [], 1)
theorem kf_X1_init : aKf (KX1_init) := ⟨q126, q90, ⟨by decide, by decide⟩, by decide⟩
theorem ar_X1_init : (parseMethodDescriptor yX1_init.desc).map (fun d => d.parameters.length) = some 0 := by decide +kernel
abbrev KX2_init : aK := (yX2_init, cX2_init, 1, none, [], 1)
theorem kf_X2_init : aKf (KX2_init) := ⟨q137, q91, ⟨by decide, by decide⟩, by decide⟩
theorem ar_X2_init : (parseMethodDescriptor yX2_init.desc).map (fun d => d.parameters.length) = some 0 := by decide +kernel
abbrev KX0_init : aK := (yX0_init, cX0_init, 1, none, [], 2)
theorem kf_X0_init : aKf (KX0_init) := ⟨q113, q89, ⟨by decide, by decide⟩, by decide⟩
theorem ar_X0_init : (parseMethodDescriptor yX0_init.desc).map (fun d => d.parameters.length) = some 0 := by decide +kernel
abbrev KX0_isInChain : aK := (yX0_isInChain, cX0_isInChain, 3, (some .boolean), [], 1)
theorem kf_X0_isInChain : aKf (KX0_isInChain) := ⟨q812, q89, ⟨by decide, by decide⟩, by decide⟩
theorem ar_X0_isInChain : (parseMethodDescriptor yX0_isInChain.desc).map (fun d => d.parameters.length) = some 2 := by decide +kernel
abbrev KX0_item : aK := (yX0_item, cX0_item, 5, (some .long), [(21, 38, 39, 169), (21, 38, 45, 53)], 3)
theorem kf_X0_item : aKf (KX0_item) := ⟨q934, q89, ⟨by decide, by decide⟩, by decide⟩
theorem ar_X0_item : (parseMethodDescriptor yX0_item.desc).map (fun d => d.parameters.length) = some 2 := by decide +kernel
abbrev KX5_kind : aK := (yX5_kind, cX5_kind, 1, (some .int), [], 1)
theorem kf_X5_kind : aKf (KX5_kind) := ⟨q715, q94, ⟨by decide, by decide⟩, by decide⟩
theorem ar_X5_kind : (parseMethodDescriptor yX5_kind.desc).map (fun d => d.parameters.length) = some 0 := by decide +kernel
abbrev KX6_kind : aK := (yX6_kind, cX6_kind, 1, (some .int), [], 2)
theorem kf_X6_kind : aKf (KX6_kind) := ⟨q712, q95, ⟨by decide, by decide⟩, by decide⟩
theorem ar_X6_kind : (parseMethodDescriptor yX6_kind.desc).map (fun d => d.parameters.length) = some 0 := by decide +kernel
abbrev KX7_kind : aK := (yX7_kind, cX7_kind, 1, (some .int), [], 1)
theorem kf_X7_kind : aKf (KX7_kind) := ⟨q719, q104, ⟨by decide, by decide⟩, by decide⟩
theorem ar_X7_kind : (parseMethodDescriptor yX7_kind.desc).map (fun d => d.parameters.length) = some 0 := by decide +kernel
abbrev KX8_kind : aK := (yX8_kind, cX8_kind, 1, (some .int), [], 2)
theorem kf_X8_kind : aKf (KX8_kind) := ⟨q722, q105, ⟨by decide, by decide⟩, by decide⟩
theorem ar_X8_kind : (parseMethodDescriptor yX8_kind.desc).map (fun d => d.parameters.length) = some 0 := by decide +kernel
abbrev KX0_kindOf : aK := (yX0_kindOf, cX0_kindOf, 1, (some .int), [], 3)
theorem kf_X0_kindOf : aKf (KX0_kindOf) := ⟨q706, q89, ⟨by decide, by decide⟩, by decide⟩
theorem ar_X0_kindOf : (parseMethodDescriptor yX0_kindOf.desc).map (fun d => d.parameters.length) = some 1 := by decide +kernel
abbrev KX0_madeOf : aK := (yX0_madeOf, cX0_madeOf, 1, (some .int), [], 1)
theorem kf_X0_madeOf : aKf (KX0_madeOf) := ⟨q726, q89, ⟨by decide, by decide⟩, by decide⟩
theorem ar_X0_madeOf : (parseMethodDescriptor yX0_madeOf.desc).map (fun d => d.parameters.length) = some 1 := by decide +kernel
abbrev KX9_init : aK := (yX9_init, cX9_init, 2, none, [], 1)
theorem kf_X9_init : aKf (KX9_init) := ⟨q600, q106, ⟨by decide, by decide⟩, by decide⟩
theorem ar_X9_init : (parseMethodDescriptor yX9_init.desc).map (fun d => d.parameters.length) = some 1 := by decide +kernel
abbrev KX0_mark : aK := (yX0_mark, cX0_mark, 5, (some .int), [(0, 35, 47, 53), (36, 46, 47, 53), (0, 35, 51, 169), (36, 46, 51, 169), (0, 35, 55, 171), (36, 46, 55, 171)], 3)
theorem kf_X0_mark : aKf (KX0_mark) := ⟨q595, q89, ⟨by decide, by decide⟩, by decide⟩
theorem ar_X0_mark : (parseMethodDescriptor yX0_mark.desc).map (fun d => d.parameters.length) = some 1 := by decide +kernel
abbrev KX0_most : aK := (yX0_most, cX0_most, 4, (some .long), [], 17)
theorem kf_X0_most : aKf (KX0_most) := ⟨q858, q89, ⟨by decide, by decide⟩, by decide⟩
theorem ar_X0_most : (parseMethodDescriptor yX0_most.desc).map (fun d => d.parameters.length) = some 2 := by decide +kernel
abbrev KX0_numberOf : aK := (yX0_numberOf, cX0_numberOf, 1, (some .int), [], 1)
theorem kf_X0_numberOf : aKf (KX0_numberOf) := ⟨q736, q89, ⟨by decide, by decide⟩, by decide⟩
theorem ar_X0_numberOf : (parseMethodDescriptor yX0_numberOf.desc).map (fun d => d.parameters.length) = some 1 := by decide +kernel
abbrev KX0_range : aK := (yX0_range, cX0_range, 5, (some .long), [], 6)
theorem kf_X0_range : aKf (KX0_range) := ⟨q809, q89, ⟨by decide, by decide⟩, by decide⟩
theorem ar_X0_range : (parseMethodDescriptor yX0_range.desc).map (fun d => d.parameters.length) = some 2 := by decide +kernel
abbrev KX0_rowOf : aK := (yX0_rowOf, cX0_rowOf, 2, (some (.object "java/lang/Object")), [], 1)
theorem kf_X0_rowOf : aKf (KX0_rowOf) := ⟨q920, q89, ⟨by decide, by decide⟩, by decide⟩
theorem ar_X0_rowOf : (parseMethodDescriptor yX0_rowOf.desc).map (fun d => d.parameters.length) = some 2 := by decide +kernel
abbrev KX0_sheet : aK := (yX0_sheet, cX0_sheet, 5, (some .int), [(50, 65, 66, 384)], 3)
theorem kf_X0_sheet : aKf (KX0_sheet) := ⟨q899, q89, ⟨by decide, by decide⟩, by decide⟩
theorem ar_X0_sheet : (parseMethodDescriptor yX0_sheet.desc).map (fun d => d.parameters.length) = some 3 := by decide +kernel
abbrev KX0_since : aK := (yX0_since, cX0_since, 9, (some .long), [], 3)
theorem kf_X0_since : aKf (KX0_since) := ⟨q850, q89, ⟨by decide, by decide⟩, by decide⟩
theorem ar_X0_since : (parseMethodDescriptor yX0_since.desc).map (fun d => d.parameters.length) = some 2 := by decide +kernel
abbrev KX0_slot : aK := (yX0_slot, cX0_slot, 4, (some .int), [(15, 28, 29, 53), (15, 28, 33, 169), (15, 28, 37, 171)], 3)
theorem kf_X0_slot : aKf (KX0_slot) := ⟨q759, q89, ⟨by decide, by decide⟩, by decide⟩
theorem ar_X0_slot : (parseMethodDescriptor yX0_slot.desc).map (fun d => d.parameters.length) = some 2 := by decide +kernel
abbrev KX0_space : aK := (yX0_space, cX0_space, 3, (some .long), [], 3)
theorem kf_X0_space : aKf (KX0_space) := ⟨q805, q89, ⟨by decide, by decide⟩, by decide⟩
theorem ar_X0_space : (parseMethodDescriptor yX0_space.desc).map (fun d => d.parameters.length) = some 1 := by decide +kernel
abbrev KX0_tag : aK := (yX0_tag, cX0_tag, 5, (some .int), [(15, 37, 38, 53), (15, 37, 42, 169), (15, 37, 46, 171)], 3)
theorem kf_X0_tag : aKf (KX0_tag) := ⟨q582, q89, ⟨by decide, by decide⟩, by decide⟩
theorem ar_X0_tag : (parseMethodDescriptor yX0_tag.desc).map (fun d => d.parameters.length) = some 2 := by decide +kernel
abbrev KX0_takenFor : aK := (yX0_takenFor, cX0_takenFor, 2, (some .int), [], 1)
theorem kf_X0_takenFor : aKf (KX0_takenFor) := ⟨q785, q89, ⟨by decide, by decide⟩, by decide⟩
theorem ar_X0_takenFor : (parseMethodDescriptor yX0_takenFor.desc).map (fun d => d.parameters.length) = some 2 := by decide +kernel
abbrev KX0_taken : aK := (yX0_taken, cX0_taken, 4, (some .int), [(15, 24, 25, 53), (15, 24, 29, 169), (15, 24, 33, 171)], 3)
theorem kf_X0_taken : aKf (KX0_taken) := ⟨q781, q89, ⟨by decide, by decide⟩, by decide⟩
theorem ar_X0_taken : (parseMethodDescriptor yX0_taken.desc).map (fun d => d.parameters.length) = some 2 := by decide +kernel
abbrev KX0_tick : aK := (yX0_tick, cX0_tick, 1, (some .int), [], 1)
theorem kf_X0_tick : aKf (KX0_tick) := ⟨q698, q89, ⟨by decide, by decide⟩, by decide⟩
theorem ar_X0_tick : (parseMethodDescriptor yX0_tick.desc).map (fun d => d.parameters.length) = some 0 := by decide +kernel
abbrev KX0_toldOfMark : aK := (yX0_toldOfMark, cX0_toldOfMark, 1, (some .int), [], 1)
theorem kf_X0_toldOfMark : aKf (KX0_toldOfMark) := ⟨q729, q89, ⟨by decide, by decide⟩, by decide⟩
theorem ar_X0_toldOfMark : (parseMethodDescriptor yX0_toldOfMark.desc).map (fun d => d.parameters.length) = some 1 := by decide +kernel
abbrev KX4_holdsMany : aK := (yX4_holdsMany, cX4_holdsMany, 3, (some .int), [], 1)
theorem kf_X4_holdsMany : aKf (KX4_holdsMany) := ⟨q744, q93, ⟨by decide, by decide⟩, by decide⟩
theorem ar_X4_holdsMany : (parseMethodDescriptor yX4_holdsMany.desc).map (fun d => d.parameters.length) = some 0 := by decide +kernel
abbrev KX4_quota : aK := (yX4_quota, cX4_quota, 1, (some .int), [], 1)
theorem kf_X4_quota : aKf (KX4_quota) := ⟨q755, q93, ⟨by decide, by decide⟩, by decide⟩
theorem ar_X4_quota : (parseMethodDescriptor yX4_quota.desc).map (fun d => d.parameters.length) = some 0 := by decide +kernel
abbrev KX6_quota : aK := (yX6_quota, cX6_quota, 1, (some .int), [], 1)
theorem kf_X6_quota : aKf (KX6_quota) := ⟨q751, q95, ⟨by decide, by decide⟩, by decide⟩
theorem ar_X6_quota : (parseMethodDescriptor yX6_quota.desc).map (fun d => d.parameters.length) = some 0 := by decide +kernel
abbrev KX0_toldOf : aK := (yX0_toldOf, cX0_toldOf, 3, (some .int), [], 4)
theorem kf_X0_toldOf : aKf (KX0_toldOf) := ⟨q733, q89, ⟨by decide, by decide⟩, by decide⟩
theorem ar_X0_toldOf : (parseMethodDescriptor yX0_toldOf.desc).map (fun d => d.parameters.length) = some 2 := by decide +kernel
abbrev KX0_told : aK := (yX0_told, cX0_told, 4, (some .int), [], 5)
theorem kf_X0_told : aKf (KX0_told) := ⟨q703, q89, ⟨by decide, by decide⟩, by decide⟩
theorem ar_X0_told : (parseMethodDescriptor yX0_told.desc).map (fun d => d.parameters.length) = some 2 := by decide +kernel
abbrev KX3_in : aK := (yX3_in, cX3_in, 3, (some .boolean), [], 1)
theorem kf_X3_in : aKf (KX3_in) := ⟨q1079, q92, ⟨by decide, by decide⟩, by decide⟩
theorem ar_X3_in : (parseMethodDescriptor yX3_in.desc).map (fun d => d.parameters.length) = some 3 := by decide +kernel
abbrev KX3_isThing : aK := (yX3_isThing, cX3_isThing, 2, (some .boolean), [], 2)
theorem kf_X3_isThing : aKf (KX3_isThing) := ⟨q1103, q92, ⟨by decide, by decide⟩, by decide⟩
theorem ar_X3_isThing : (parseMethodDescriptor yX3_isThing.desc).map (fun d => d.parameters.length) = some 1 := by decide +kernel
abbrev KX3_isUnder : aK := (yX3_isUnder, cX3_isUnder, 2, (some .boolean), [], 1)
theorem kf_X3_isUnder : aKf (KX3_isUnder) := ⟨q1106, q92, ⟨by decide, by decide⟩, by decide⟩
theorem ar_X3_isUnder : (parseMethodDescriptor yX3_isUnder.desc).map (fun d => d.parameters.length) = some 2 := by decide +kernel
abbrev KX3_isFiles : aK := (yX3_isFiles, cX3_isFiles, 2, (some .boolean), [], 3)
theorem kf_X3_isFiles : aKf (KX3_isFiles) := ⟨q1138, q92, ⟨by decide, by decide⟩, by decide⟩
theorem ar_X3_isFiles : (parseMethodDescriptor yX3_isFiles.desc).map (fun d => d.parameters.length) = some 1 := by decide +kernel
abbrev KX3_isSnapshot : aK := (yX3_isSnapshot, cX3_isSnapshot, 2, (some .boolean), [], 3)
theorem kf_X3_isSnapshot : aKf (KX3_isSnapshot) := ⟨q1142, q92, ⟨by decide, by decide⟩, by decide⟩
theorem ar_X3_isSnapshot : (parseMethodDescriptor yX3_isSnapshot.desc).map (fun d => d.parameters.length) = some 1 := by decide +kernel
abbrev KX3_hasSlots : aK := (yX3_hasSlots, cX3_hasSlots, 2, (some .boolean), [], 4)
theorem kf_X3_hasSlots : aKf (KX3_hasSlots) := ⟨q1134, q92, ⟨by decide, by decide⟩, by decide⟩
theorem ar_X3_hasSlots : (parseMethodDescriptor yX3_hasSlots.desc).map (fun d => d.parameters.length) = some 1 := by decide +kernel
abbrev KX3_counts : aK := (yX3_counts, cX3_counts, 4, none, [], 5)
theorem kf_X3_counts : aKf (KX3_counts) := ⟨q1130, q92, ⟨by decide, by decide⟩, by decide⟩
theorem ar_X3_counts : (parseMethodDescriptor yX3_counts.desc).map (fun d => d.parameters.length) = some 0 := by decide +kernel
abbrev KX3_isHeld : aK := (yX3_isHeld, cX3_isHeld, 5, (some .boolean), [], 5)
theorem kf_X3_isHeld : aKf (KX3_isHeld) := ⟨q1239, q92, ⟨by decide, by decide⟩, by decide⟩
theorem ar_X3_isHeld : (parseMethodDescriptor yX3_isHeld.desc).map (fun d => d.parameters.length) = some 2 := by decide +kernel
abbrev KX3_aloneIn : aK := (yX3_aloneIn, cX3_aloneIn, 7, (some .long), [], 6)
theorem kf_X3_aloneIn : aKf (KX3_aloneIn) := ⟨q1260, q92, ⟨by decide, by decide⟩, by decide⟩
theorem ar_X3_aloneIn : (parseMethodDescriptor yX3_aloneIn.desc).map (fun d => d.parameters.length) = some 1 := by decide +kernel
abbrev KX3_alone : aK := (yX3_alone, cX3_alone, 2, (some .long), [], 7)
theorem kf_X3_alone : aKf (KX3_alone) := ⟨q1256, q92, ⟨by decide, by decide⟩, by decide⟩
theorem ar_X3_alone : (parseMethodDescriptor yX3_alone.desc).map (fun d => d.parameters.length) = some 1 := by decide +kernel
abbrev KX3_isSheet : aK := (yX3_isSheet, cX3_isSheet, 1, (some .boolean), [], 2)
theorem kf_X3_isSheet : aKf (KX3_isSheet) := ⟨q1311, q92, ⟨by decide, by decide⟩, by decide⟩
theorem ar_X3_isSheet : (parseMethodDescriptor yX3_isSheet.desc).map (fun d => d.parameters.length) = some 1 := by decide +kernel
abbrev KX3_there : aK := (yX3_there, cX3_there, 2, (some .int), [], 3)
theorem kf_X3_there : aKf (KX3_there) := ⟨q1099, q92, ⟨by decide, by decide⟩, by decide⟩
theorem ar_X3_there : (parseMethodDescriptor yX3_there.desc).map (fun d => d.parameters.length) = some 1 := by decide +kernel
abbrev KX3_asked : aK := (yX3_asked, cX3_asked, 4, (some .int), [], 4)
theorem kf_X3_asked : aKf (KX3_asked) := ⟨q1095, q92, ⟨by decide, by decide⟩, by decide⟩
theorem ar_X3_asked : (parseMethodDescriptor yX3_asked.desc).map (fun d => d.parameters.length) = some 2 := by decide +kernel
abbrev KX3_frees : aK := (yX3_frees, cX3_frees, 3, (some .int), [], 6)
theorem kf_X3_frees : aKf (KX3_frees) := ⟨q1126, q92, ⟨by decide, by decide⟩, by decide⟩
theorem ar_X3_frees : (parseMethodDescriptor yX3_frees.desc).map (fun d => d.parameters.length) = some 0 := by decide +kernel
abbrev KX3_erased : aK := (yX3_erased, cX3_erased, 4, (some .int), [], 7)
theorem kf_X3_erased : aKf (KX3_erased) := ⟨q1150, q92, ⟨by decide, by decide⟩, by decide⟩
theorem ar_X3_erased : (parseMethodDescriptor yX3_erased.desc).map (fun d => d.parameters.length) = some 2 := by decide +kernel
abbrev KX3_newBlock : aK := (yX3_newBlock, cX3_newBlock, 2, (some .int), [], 1)
theorem kf_X3_newBlock : aKf (KX3_newBlock) := ⟨q1114, q92, ⟨by decide, by decide⟩, by decide⟩
theorem ar_X3_newBlock : (parseMethodDescriptor yX3_newBlock.desc).map (fun d => d.parameters.length) = some 0 := by decide +kernel
abbrev KX3_spaceOf : aK := (yX3_spaceOf, cX3_spaceOf, 6, (some .long), [], 1)
theorem kf_X3_spaceOf : aKf (KX3_spaceOf) := ⟨q1118, q92, ⟨by decide, by decide⟩, by decide⟩
theorem ar_X3_spaceOf : (parseMethodDescriptor yX3_spaceOf.desc).map (fun d => d.parameters.length) = some 1 := by decide +kernel
abbrev KX3_sizeIn : aK := (yX3_sizeIn, cX3_sizeIn, 4, (some .int), [], 1)
theorem kf_X3_sizeIn : aKf (KX3_sizeIn) := ⟨q1122, q92, ⟨by decide, by decide⟩, by decide⟩
theorem ar_X3_sizeIn : (parseMethodDescriptor yX3_sizeIn.desc).map (fun d => d.parameters.length) = some 2 := by decide +kernel
abbrev KX3_written : aK := (yX3_written, cX3_written, 6, (some .int), [], 7)
theorem kf_X3_written : aKf (KX3_written) := ⟨q1110, q92, ⟨by decide, by decide⟩, by decide⟩
theorem ar_X3_written : (parseMethodDescriptor yX3_written.desc).map (fun d => d.parameters.length) = some 3 := by decide +kernel
abbrev KX3_isApplied : aK := (yX3_isApplied, cX3_isApplied, 6, (some .boolean), [], 8)
theorem kf_X3_isApplied : aKf (KX3_isApplied) := ⟨q1335, q92, ⟨by decide, by decide⟩, by decide⟩
theorem ar_X3_isApplied : (parseMethodDescriptor yX3_isApplied.desc).map (fun d => d.parameters.length) = some 3 := by decide +kernel
abbrev KX3_apply : aK := (yX3_apply, cX3_apply, 7, (some .int), [], 9)
theorem kf_X3_apply : aKf (KX3_apply) := ⟨q1331, q92, ⟨by decide, by decide⟩, by decide⟩
theorem ar_X3_apply : (parseMethodDescriptor yX3_apply.desc).map (fun d => d.parameters.length) = some 3 := by decide +kernel
abbrev KX3_askedSlots : aK := (yX3_askedSlots, cX3_askedSlots, 3, (some .int), [], 5)
theorem kf_X3_askedSlots : aKf (KX3_askedSlots) := ⟨q1219, q92, ⟨by decide, by decide⟩, by decide⟩
theorem ar_X3_askedSlots : (parseMethodDescriptor yX3_askedSlots.desc).map (fun d => d.parameters.length) = some 1 := by decide +kernel
abbrev KX3_things : aK := (yX3_things, cX3_things, 3, (some .int), [], 3)
theorem kf_X3_things : aKf (KX3_things) := ⟨q1362, q92, ⟨by decide, by decide⟩, by decide⟩
theorem ar_X3_things : (parseMethodDescriptor yX3_things.desc).map (fun d => d.parameters.length) = some 0 := by decide +kernel
abbrev KX3_back : aK := (yX3_back, cX3_back, 2, (some .int), [], 4)
theorem kf_X3_back : aKf (KX3_back) := ⟨q1374, q92, ⟨by decide, by decide⟩, by decide⟩
theorem ar_X3_back : (parseMethodDescriptor yX3_back.desc).map (fun d => d.parameters.length) = some 0 := by decide +kernel
abbrev KX3_block : aK := (yX3_block, cX3_block, 3, (some .int), [], 6)
theorem kf_X3_block : aKf (KX3_block) := ⟨q1223, q92, ⟨by decide, by decide⟩, by decide⟩
theorem ar_X3_block : (parseMethodDescriptor yX3_block.desc).map (fun d => d.parameters.length) = some 2 := by decide +kernel
abbrev KX3_blocks : aK := (yX3_blocks, cX3_blocks, 3, (some .int), [], 1)
theorem kf_X3_blocks : aKf (KX3_blocks) := ⟨q1366, q92, ⟨by decide, by decide⟩, by decide⟩
theorem ar_X3_blocks : (parseMethodDescriptor yX3_blocks.desc).map (fun d => d.parameters.length) = some 0 := by decide +kernel
abbrev KX3_cell : aK := (yX3_cell, cX3_cell, 5, (some .int), [], 3)
theorem kf_X3_cell : aKf (KX3_cell) := ⟨q1319, q92, ⟨by decide, by decide⟩, by decide⟩
theorem ar_X3_cell : (parseMethodDescriptor yX3_cell.desc).map (fun d => d.parameters.length) = some 3 := by decide +kernel
abbrev KX3_chained : aK := (yX3_chained, cX3_chained, 5, (some .int), [], 1)
theorem kf_X3_chained : aKf (KX3_chained) := ⟨q1247, q92, ⟨by decide, by decide⟩, by decide⟩
theorem ar_X3_chained : (parseMethodDescriptor yX3_chained.desc).map (fun d => d.parameters.length) = some 2 := by decide +kernel
abbrev KX3_newThing : aK := (yX3_newThing, cX3_newThing, 2, (some .int), [], 1)
theorem kf_X3_newThing : aKf (KX3_newThing) := ⟨q1083, q92, ⟨by decide, by decide⟩, by decide⟩
theorem ar_X3_newThing : (parseMethodDescriptor yX3_newThing.desc).map (fun d => d.parameters.length) = some 0 := by decide +kernel
abbrev KX3_comes : aK := (yX3_comes, cX3_comes, 5, (some .int), [], 2)
theorem kf_X3_comes : aKf (KX3_comes) := ⟨q1087, q92, ⟨by decide, by decide⟩, by decide⟩
theorem ar_X3_comes : (parseMethodDescriptor yX3_comes.desc).map (fun d => d.parameters.length) = some 2 := by decide +kernel
abbrev KX3_common : aK := (yX3_common, cX3_common, 6, (some .long), [], 6)
theorem kf_X3_common : aKf (KX3_common) := ⟨q1272, q92, ⟨by decide, by decide⟩, by decide⟩
theorem ar_X3_common : (parseMethodDescriptor yX3_common.desc).map (fun d => d.parameters.length) = some 2 := by decide +kernel
abbrev KX3_count : aK := (yX3_count, cX3_count, 2, (some .int), [], 4)
theorem kf_X3_count : aKf (KX3_count) := ⟨q1378, q92, ⟨by decide, by decide⟩, by decide⟩
theorem ar_X3_count : (parseMethodDescriptor yX3_count.desc).map (fun d => d.parameters.length) = some 1 := by decide +kernel
abbrev KX3_countOf : aK := (yX3_countOf, cX3_countOf, 4, (some .int), [], 1)
theorem kf_X3_countOf : aKf (KX3_countOf) := ⟨q1292, q92, ⟨by decide, by decide⟩, by decide⟩
theorem ar_X3_countOf : (parseMethodDescriptor yX3_countOf.desc).map (fun d => d.parameters.length) = some 1 := by decide +kernel
abbrev KX3_isDead : aK := (yX3_isDead, cX3_isDead, 3, (some .boolean), [], 6)
theorem kf_X3_isDead : aKf (KX3_isDead) := ⟨q1235, q92, ⟨by decide, by decide⟩, by decide⟩
theorem ar_X3_isDead : (parseMethodDescriptor yX3_isDead.desc).map (fun d => d.parameters.length) = some 2 := by decide +kernel
abbrev KX3_dead : aK := (yX3_dead, cX3_dead, 8, (some .int), [], 7)
theorem kf_X3_dead : aKf (KX3_dead) := ⟨q1231, q92, ⟨by decide, by decide⟩, by decide⟩
theorem ar_X3_dead : (parseMethodDescriptor yX3_dead.desc).map (fun d => d.parameters.length) = some 2 := by decide +kernel
abbrev KX3_deadList : aK := (yX3_deadList, cX3_deadList, 9, (some .long), [], 7)
theorem kf_X3_deadList : aKf (KX3_deadList) := ⟨q1243, q92, ⟨by decide, by decide⟩, by decide⟩
theorem ar_X3_deadList : (parseMethodDescriptor yX3_deadList.desc).map (fun d => d.parameters.length) = some 2 := by decide +kernel
abbrev KX3_makes : aK := (yX3_makes, cX3_makes, 5, none, [], 1)
theorem kf_X3_makes : aKf (KX3_makes) := ⟨q1315, q92, ⟨by decide, by decide⟩, by decide⟩
theorem ar_X3_makes : (parseMethodDescriptor yX3_makes.desc).map (fun d => d.parameters.length) = some 3 := by decide +kernel
abbrev KX3_differ : aK := (yX3_differ, cX3_differ, 7, (some .int), [], 6)
theorem kf_X3_differ : aKf (KX3_differ) := ⟨q1327, q92, ⟨by decide, by decide⟩, by decide⟩
theorem ar_X3_differ : (parseMethodDescriptor yX3_differ.desc).map (fun d => d.parameters.length) = some 3 := by decide +kernel
abbrev KX3_lots : aK := (yX3_lots, cX3_lots, 1, (some .int), [], 1)
theorem kf_X3_lots : aKf (KX3_lots) := ⟨q1345, q92, ⟨by decide, by decide⟩, by decide⟩
theorem ar_X3_lots : (parseMethodDescriptor yX3_lots.desc).map (fun d => d.parameters.length) = some 0 := by decide +kernel
abbrev KX3_write : aK := (yX3_write, cX3_write, 5, (some .int), [], 8)
theorem kf_X3_write : aKf (KX3_write) := ⟨q1091, q92, ⟨by decide, by decide⟩, by decide⟩
theorem ar_X3_write : (parseMethodDescriptor yX3_write.desc).map (fun d => d.parameters.length) = some 3 := by decide +kernel
abbrev KX3_erase : aK := (yX3_erase, cX3_erase, 4, (some .int), [], 8)
theorem kf_X3_erase : aKf (KX3_erase) := ⟨q1146, q92, ⟨by decide, by decide⟩, by decide⟩
theorem ar_X3_erase : (parseMethodDescriptor yX3_erase.desc).map (fun d => d.parameters.length) = some 2 := by decide +kernel
abbrev KX3_takesSlots : aK := (yX3_takesSlots, cX3_takesSlots, 4, none, [], 1)
theorem kf_X3_takesSlots : aKf (KX3_takesSlots) := ⟨q1158, q92, ⟨by decide, by decide⟩, by decide⟩
theorem ar_X3_takesSlots : (parseMethodDescriptor yX3_takesSlots.desc).map (fun d => d.parameters.length) = some 2 := by decide +kernel
abbrev KX3_snap : aK := (yX3_snap, cX3_snap, 5, (some .int), [], 5)
theorem kf_X3_snap : aKf (KX3_snap) := ⟨q1154, q92, ⟨by decide, by decide⟩, by decide⟩
theorem ar_X3_snap : (parseMethodDescriptor yX3_snap.desc).map (fun d => d.parameters.length) = some 2 := by decide +kernel
abbrev KX3_nexts : aK := (yX3_nexts, cX3_nexts, 4, (some .int), [], 5)
theorem kf_X3_nexts : aKf (KX3_nexts) := ⟨q1174, q92, ⟨by decide, by decide⟩, by decide⟩
theorem ar_X3_nexts : (parseMethodDescriptor yX3_nexts.desc).map (fun d => d.parameters.length) = some 1 := by decide +kernel
abbrev KX3_owned : aK := (yX3_owned, cX3_owned, 4, (some .int), [], 4)
theorem kf_X3_owned : aKf (KX3_owned) := ⟨q1178, q92, ⟨by decide, by decide⟩, by decide⟩
theorem ar_X3_owned : (parseMethodDescriptor yX3_owned.desc).map (fun d => d.parameters.length) = some 1 := by decide +kernel
abbrev KX3_removed : aK := (yX3_removed, cX3_removed, 3, (some .int), [], 7)
theorem kf_X3_removed : aKf (KX3_removed) := ⟨q1182, q92, ⟨by decide, by decide⟩, by decide⟩
theorem ar_X3_removed : (parseMethodDescriptor yX3_removed.desc).map (fun d => d.parameters.length) = some 1 := by decide +kernel
abbrev KX3_remove : aK := (yX3_remove, cX3_remove, 3, (some .int), [], 8)
theorem kf_X3_remove : aKf (KX3_remove) := ⟨q1170, q92, ⟨by decide, by decide⟩, by decide⟩
theorem ar_X3_remove : (parseMethodDescriptor yX3_remove.desc).map (fun d => d.parameters.length) = some 1 := by decide +kernel
abbrev KX3_fork : aK := (yX3_fork, cX3_fork, 4, (some .int), [], 5)
theorem kf_X3_fork : aKf (KX3_fork) := ⟨q1186, q92, ⟨by decide, by decide⟩, by decide⟩
theorem ar_X3_fork : (parseMethodDescriptor yX3_fork.desc).map (fun d => d.parameters.length) = some 1 := by decide +kernel
abbrev KX3_originOf : aK := (yX3_originOf, cX3_originOf, 3, (some .int), [], 1)
theorem kf_X3_originOf : aKf (KX3_originOf) := ⟨q1194, q92, ⟨by decide, by decide⟩, by decide⟩
theorem ar_X3_originOf : (parseMethodDescriptor yX3_originOf.desc).map (fun d => d.parameters.length) = some 1 := by decide +kernel
abbrev KX3_promote : aK := (yX3_promote, cX3_promote, 7, (some .int), [], 5)
theorem kf_X3_promote : aKf (KX3_promote) := ⟨q1190, q92, ⟨by decide, by decide⟩, by decide⟩
theorem ar_X3_promote : (parseMethodDescriptor yX3_promote.desc).map (fun d => d.parameters.length) = some 1 := by decide +kernel
abbrev KX3_rollback : aK := (yX3_rollback, cX3_rollback, 3, (some .int), [], 7)
theorem kf_X3_rollback : aKf (KX3_rollback) := ⟨q1198, q92, ⟨by decide, by decide⟩, by decide⟩
theorem ar_X3_rollback : (parseMethodDescriptor yX3_rollback.desc).map (fun d => d.parameters.length) = some 1 := by decide +kernel
abbrev KX3_files : aK := (yX3_files, cX3_files, 3, (some .int), [], 3)
theorem kf_X3_files : aKf (KX3_files) := ⟨q1075, q92, ⟨by decide, by decide⟩, by decide⟩
theorem ar_X3_files : (parseMethodDescriptor yX3_files.desc).map (fun d => d.parameters.length) = some 1 := by decide +kernel
abbrev KX3_draws : aK := (yX3_draws, cX3_draws, 5, none, [], 9)
theorem kf_X3_draws : aKf (KX3_draws) := ⟨q1350, q92, ⟨by decide, by decide⟩, by decide⟩
theorem ar_X3_draws : (parseMethodDescriptor yX3_draws.desc).map (fun d => d.parameters.length) = some 3 := by decide +kernel
abbrev KX3_drawn : aK := (yX3_drawn, cX3_drawn, 9, (some .long), [], 10)
theorem kf_X3_drawn : aKf (KX3_drawn) := ⟨q1341, q92, ⟨by decide, by decide⟩, by decide⟩
theorem ar_X3_drawn : (parseMethodDescriptor yX3_drawn.desc).map (fun d => d.parameters.length) = some 3 := by decide +kernel
abbrev KX3_looksForOwned : aK := (yX3_looksForOwned, cX3_looksForOwned, 4, none, [], 4)
theorem kf_X3_looksForOwned : aKf (KX3_looksForOwned) := ⟨q1280, q92, ⟨by decide, by decide⟩, by decide⟩
theorem ar_X3_looksForOwned : (parseMethodDescriptor yX3_looksForOwned.desc).map (fun d => d.parameters.length) = some 1 := by decide +kernel
abbrev KX3_isLoose : aK := (yX3_isLoose, cX3_isLoose, 2, (some .boolean), [], 6)
theorem kf_X3_isLoose : aKf (KX3_isLoose) := ⟨q1288, q92, ⟨by decide, by decide⟩, by decide⟩
theorem ar_X3_isLoose : (parseMethodDescriptor yX3_isLoose.desc).map (fun d => d.parameters.length) = some 1 := by decide +kernel
abbrev KX3_expire : aK := (yX3_expire, cX3_expire, 8, (some .int), [], 8)
theorem kf_X3_expire : aKf (KX3_expire) := ⟨q1304, q92, ⟨by decide, by decide⟩, by decide⟩
theorem ar_X3_expire : (parseMethodDescriptor yX3_expire.desc).map (fun d => d.parameters.length) = some 3 := by decide +kernel
abbrev KX3_looksForHolders : aK := (yX3_looksForHolders, cX3_looksForHolders, 6, (some .int), [], 7)
theorem kf_X3_looksForHolders : aKf (KX3_looksForHolders) := ⟨q1284, q92, ⟨by decide, by decide⟩, by decide⟩
theorem ar_X3_looksForHolders : (parseMethodDescriptor yX3_looksForHolders.desc).map (fun d => d.parameters.length) = some 0 := by decide +kernel
abbrev KX3_freedBy : aK := (yX3_freedBy, cX3_freedBy, 5, (some .long), [], 1)
theorem kf_X3_freedBy : aKf (KX3_freedBy) := ⟨q1296, q92, ⟨by decide, by decide⟩, by decide⟩
theorem ar_X3_freedBy : (parseMethodDescriptor yX3_freedBy.desc).map (fun d => d.parameters.length) = some 1 := by decide +kernel
abbrev KX3_fewest : aK := (yX3_fewest, cX3_fewest, 9, (some .int), [], 8)
theorem kf_X3_fewest : aKf (KX3_fewest) := ⟨q1300, q92, ⟨by decide, by decide⟩, by decide⟩
theorem ar_X3_fewest : (parseMethodDescriptor yX3_fewest.desc).map (fun d => d.parameters.length) = some 2 := by decide +kernel
abbrev KX3_heldMany : aK := (yX3_heldMany, cX3_heldMany, 4, (some .int), [], 5)
theorem kf_X3_heldMany : aKf (KX3_heldMany) := ⟨q1211, q92, ⟨by decide, by decide⟩, by decide⟩
theorem ar_X3_heldMany : (parseMethodDescriptor yX3_heldMany.desc).map (fun d => d.parameters.length) = some 1 := by decide +kernel
abbrev KX3_image : aK := (yX3_image, cX3_image, 2, (some .int), [], 4)
theorem kf_X3_image : aKf (KX3_image) := ⟨q1370, q92, ⟨by decide, by decide⟩, by decide⟩
theorem ar_X3_image : (parseMethodDescriptor yX3_image.desc).map (fun d => d.parameters.length) = some 0 := by decide +kernel
abbrev KX3_init : aK := (yX3_init, cX3_init, 2, none, [], 1)
theorem kf_X3_init : aKf (KX3_init) := ⟨q1031, q92, ⟨by decide, by decide⟩, by decide⟩
theorem ar_X3_init : (parseMethodDescriptor yX3_init.desc).map (fun d => d.parameters.length) = some 0 := by decide +kernel
abbrev KX3_item : aK := (yX3_item, cX3_item, 3, (some .long), [], 3)
theorem kf_X3_item : aKf (KX3_item) := ⟨q1323, q92, ⟨by decide, by decide⟩, by decide⟩
theorem ar_X3_item : (parseMethodDescriptor yX3_item.desc).map (fun d => d.parameters.length) = some 2 := by decide +kernel
abbrev KX3_mark : aK := (yX3_mark, cX3_mark, 3, (some .int), [], 5)
theorem kf_X3_mark : aKf (KX3_mark) := ⟨q1166, q92, ⟨by decide, by decide⟩, by decide⟩
theorem ar_X3_mark : (parseMethodDescriptor yX3_mark.desc).map (fun d => d.parameters.length) = some 1 := by decide +kernel
abbrev KX3_most : aK := (yX3_most, cX3_most, 9, (some .long), [], 8)
theorem kf_X3_most : aKf (KX3_most) := ⟨q1276, q92, ⟨by decide, by decide⟩, by decide⟩
theorem ar_X3_most : (parseMethodDescriptor yX3_most.desc).map (fun d => d.parameters.length) = some 2 := by decide +kernel
abbrev KX3_range : aK := (yX3_range, cX3_range, 5, (some .long), [], 7)
theorem kf_X3_range : aKf (KX3_range) := ⟨q1264, q92, ⟨by decide, by decide⟩, by decide⟩
theorem ar_X3_range : (parseMethodDescriptor yX3_range.desc).map (fun d => d.parameters.length) = some 2 := by decide +kernel
abbrev KX3_sheet : aK := (yX3_sheet, cX3_sheet, 4, (some .int), [], 3)
theorem kf_X3_sheet : aKf (KX3_sheet) := ⟨q1308, q92, ⟨by decide, by decide⟩, by decide⟩
theorem ar_X3_sheet : (parseMethodDescriptor yX3_sheet.desc).map (fun d => d.parameters.length) = some 3 := by decide +kernel
abbrev KX3_since : aK := (yX3_since, cX3_since, 7, (some .long), [], 5)
theorem kf_X3_since : aKf (KX3_since) := ⟨q1268, q92, ⟨by decide, by decide⟩, by decide⟩
theorem ar_X3_since : (parseMethodDescriptor yX3_since.desc).map (fun d => d.parameters.length) = some 2 := by decide +kernel
abbrev KX3_slot : aK := (yX3_slot, cX3_slot, 4, (some .int), [], 6)
theorem kf_X3_slot : aKf (KX3_slot) := ⟨q1215, q92, ⟨by decide, by decide⟩, by decide⟩
theorem ar_X3_slot : (parseMethodDescriptor yX3_slot.desc).map (fun d => d.parameters.length) = some 2 := by decide +kernel
abbrev KX3_space : aK := (yX3_space, cX3_space, 2, (some .long), [], 5)
theorem kf_X3_space : aKf (KX3_space) := ⟨q1252, q92, ⟨by decide, by decide⟩, by decide⟩
theorem ar_X3_space : (parseMethodDescriptor yX3_space.desc).map (fun d => d.parameters.length) = some 1 := by decide +kernel
abbrev KX3_tag : aK := (yX3_tag, cX3_tag, 5, (some .int), [], 5)
theorem kf_X3_tag : aKf (KX3_tag) := ⟨q1162, q92, ⟨by decide, by decide⟩, by decide⟩
theorem ar_X3_tag : (parseMethodDescriptor yX3_tag.desc).map (fun d => d.parameters.length) = some 2 := by decide +kernel
abbrev KX3_taken : aK := (yX3_taken, cX3_taken, 4, (some .int), [], 5)
theorem kf_X3_taken : aKf (KX3_taken) := ⟨q1227, q92, ⟨by decide, by decide⟩, by decide⟩
theorem ar_X3_taken : (parseMethodDescriptor yX3_taken.desc).map (fun d => d.parameters.length) = some 2 := by decide +kernel
abbrev KX3_tick : aK := (yX3_tick, cX3_tick, 1, (some .int), [], 1)
theorem kf_X3_tick : aKf (KX3_tick) := ⟨q1202, q92, ⟨by decide, by decide⟩, by decide⟩
theorem ar_X3_tick : (parseMethodDescriptor yX3_tick.desc).map (fun d => d.parameters.length) = some 0 := by decide +kernel
abbrev KX3_told : aK := (yX3_told, cX3_told, 4, (some .int), [], 6)
theorem kf_X3_told : aKf (KX3_told) := ⟨q1207, q92, ⟨by decide, by decide⟩, by decide⟩
theorem ar_X3_told : (parseMethodDescriptor yX3_told.desc).map (fun d => d.parameters.length) = some 2 := by decide +kernel
theorem nw_X0_27 : aNew RX0 27 6 [vI 0, vR none, vR none, vI 0, vI 0, vR none, vR none] := ⟨(RX7, TX7, 7), tyX7, rfl, rfl, in_X7, tyX7_ok, q119, q569, q104, fun j hj => by
  have : j = 0 ∨ j = 1 ∨ j = 2 ∨ j = 3 ∨ j = 4 ∨ j = 5 ∨ j = 6 := by
    have h : j < 7 := hj
    omega
  rcases this with rfl | rfl | rfl | rfl | rfl | rfl | rfl <;> rfl⟩
theorem nw_X0_33 : aNew RX0 33 1 [vR none] := ⟨(RX1, TX1, 1), tyX1, rfl, rfl, in_X1, tyX1_ok, q121, q123, q90, fun j hj => by
  have : j = 0 := by
    have h : j < 1 := hj
    omega
  subst this; rfl⟩
theorem nw_X0_40 : aNew RX0 40 2 [vR none, vR none, vR none, vR none, vR none, vR none, vR none, vR none, vR none, vI 0, vI 0] := ⟨(RX2, TX2, 11), tyX2, rfl, rfl, in_X2, tyX2_ok, q133, q134, q91, fun j hj => by
  have : j = 0 ∨ j = 1 ∨ j = 2 ∨ j = 3 ∨ j = 4 ∨ j = 5 ∨ j = 6 ∨ j = 7 ∨ j = 8 ∨ j = 9 ∨ j = 10 := by
    have h : j < 11 := hj
    omega
  rcases this with rfl | rfl | rfl | rfl | rfl | rfl | rfl | rfl | rfl | rfl | rfl <;> rfl⟩
theorem nw_X0_60 : aNew RX0 60 8 [vI 0] := ⟨(RX9, TX9, 1), tyX9, rfl, rfl, in_X9, tyX9_ok, q596, q597, q106, fun j hj => by
  have : j = 0 := by
    have h : j < 1 := hj
    omega
  subst this; rfl⟩
theorem nw_X0_93 : aNew RX0 93 4 [vI 0, vR none, vR none, vI 0, vI 0, vR none] := ⟨(RX5, TX5, 6), tyX5, rfl, rfl, in_X5, tyX5_ok, q235, q236, q94, fun j hj => by
  have : j = 0 ∨ j = 1 ∨ j = 2 ∨ j = 3 ∨ j = 4 ∨ j = 5 := by
    have h : j < 6 := hj
    omega
  rcases this with rfl | rfl | rfl | rfl | rfl | rfl <;> rfl⟩
theorem nw_X0_111 : aNew RX0 111 5 [vI 0, vR none, vR none, vI 0, vI 0, vR none, vI 0] := ⟨(RX6, TX6, 7), tyX6, rfl, rfl, in_X6, tyX6_ok, q296, q297, q95, fun j hj => by
  have : j = 0 ∨ j = 1 ∨ j = 2 ∨ j = 3 ∨ j = 4 ∨ j = 5 ∨ j = 6 := by
    have h : j < 7 := hj
    omega
  rcases this with rfl | rfl | rfl | rfl | rfl | rfl | rfl <;> rfl⟩
theorem nw_X0_178 : aNew RX0 178 7 [vI 0, vR none, vR none, vI 0, vI 0, vR none, vR none, vI 0] := ⟨(RX8, TX8, 8), tyX8, rfl, rfl, in_X8, tyX8_ok, q532, q533, q105, fun j hj => by
  have : j = 0 ∨ j = 1 ∨ j = 2 ∨ j = 3 ∨ j = 4 ∨ j = 5 ∨ j = 6 ∨ j = 7 := by
    have h : j < 8 := hj
    omega
  rcases this with rfl | rfl | rfl | rfl | rfl | rfl | rfl | rfl <;> rfl⟩
/-! segments -/
set_option maxRecDepth 100000
set_option maxHeartbeats 1000000 in
theorem sg_X3_in_0 {i0 : Int32} {i1 : Int32} {i2 : Int32} {rc rs : Nat} {QR : Option aV → aW → Prop} {QX : String → aW → Prop} {w : aW} (h : (i0 < i1 → QR (some (vI 0)) w) ∧ (¬ i0 < i1 → (i2 < i0 → QR (some (vI 0)) w) ∧ (¬ i2 < i0 → QR (some (vI 1)) w))) : wp (KX3_in) rc rs QR QX 0 [(0, vI i0), (1, vI i1), (2, vI i2)] [] w := by
  refine wp_iload_n (n := 1) (i := 0) (q := 0) dX3_in_0 rfl rfl rfl ?_
  refine wp_iload_n (n := 2) (i := 1) (q := 1) dX3_in_1 rfl rfl rfl ?_
  refine wp_icmp_lt (n := 5) (t := 14) dX3_in_2 rfl (by decide) (fun c2 => ?_) (fun c2 => ?_)
  · replace h := h.1 c2
    refine wp_iconst (n := 15) (v := 0) dX3_in_14 rfl (by decide) ?_
    exact wp_zreturn dX3_in_15 rfl (by decide) h
  · replace h := h.2 c2
    refine wp_iload_n (n := 6) (i := 0) (q := 0) dX3_in_5 rfl rfl rfl ?_
    refine wp_iload_n (n := 7) (i := 2) (q := 2) dX3_in_6 rfl rfl rfl ?_
    refine wp_icmp_gt (n := 10) (t := 14) dX3_in_7 rfl (by decide) (fun c7 => ?_) (fun c7 => ?_)
    · replace h := h.1 c7
      refine wp_iconst (n := 15) (v := 0) dX3_in_14 rfl (by decide) ?_
      exact wp_zreturn dX3_in_15 rfl (by decide) h
    · replace h := h.2 c7
      refine wp_iconst (n := 11) (v := 1) dX3_in_10 rfl (by decide) ?_
      refine wp_goto (t := 15) dX3_in_11 (by decide) ?_
      exact wp_zreturn dX3_in_15 rfl (by decide) h
set_option maxHeartbeats 1000000 in
theorem sg_X3_isThing_0 {h0 : Nat} {i1 : Int32} {rc rs : Nat} {QR : Option aV → aW → Prop} {QX : String → aW → Prop} {w : aW} (h : ct (KX3_in) 0 0 [vI i1, vI 0, vI 19] w (fun v4 w4 => ∃ x4 : Int32, v4 = some (vI x4) ∧ (x4 = 0 → QR (some (vI 0)) w4) ∧ (¬ x4 = 0 → ∃ x11 : Nat, gf w4 h0 [3] 1 (vR (some x11)) ∧ ∃ x17 : Int32, gI w4 x11 (2 + i1) x17 ∧ (x17 = (-1) → QR (some (vI 0)) w4) ∧ (¬ x17 = (-1) → QR (some (vI 1)) w4))) (fun E4 w4 => False)) : wp (KX3_isThing) rc rs QR QX 0 [(0, vR (some h0)), (1, vI i1)] [] w := by
  refine wp_iload_n (n := 1) (i := 1) (q := 1) dX3_isThing_0 rfl rfl rfl ?_
  refine wp_iconst (n := 2) (v := 0) dX3_isThing_1 rfl (by decide) ?_
  refine wp_bipush (n := 4) (v := 19) dX3_isThing_2 rfl (by decide) ?_
  refine wp_call (n := 7) (K' := KX3_in) (rc' := rc) (rs' := rs) (aRun_S (K' := KX3_in) (As := [vI i1, vI 0, vI 19]) (rest := []) dX3_isThing_4 (aCal_of kf_X3_in (Nat.le_of_ble_eq_true rfl)) rfl q1077 q1078 ar_X3_in rfl (Nat.le_of_ble_eq_true rfl)) rfl (Nat.le_of_eq (Nat.zero_add _)) (Nat.le_of_eq (Nat.zero_add _)) (fun v4 w4 h => ?_) (fun E4 w4 h => ?_) h
  · obtain ⟨x4, rfl, h⟩ := h
    refine wp_if_eq (n := 10) (t := 26) dX3_isThing_7 rfl (by decide) (fun c7 => ?_) (fun c7 => ?_)
    · replace h := h.1 c7
      refine wp_iconst (n := 27) (v := 0) dX3_isThing_26 rfl (by decide) ?_
      exact wp_zreturn dX3_isThing_27 rfl (by decide) h
    · replace h := h.2 c7
      refine wp_aload_n (n := 11) (i := 0) (q := 0) dX3_isThing_10 rfl rfl rfl ?_
      obtain ⟨x11, g11, h⟩ := h
      refine wp_gf (n := 14) dX3_isThing_11 rfl fl_X3_7 g11 ?_
      refine wp_iconst (n := 15) (v := 2) dX3_isThing_14 rfl (by decide) ?_
      refine wp_iload_n (n := 16) (i := 1) (q := 1) dX3_isThing_15 rfl rfl rfl ?_
      refine wp_iadd (n := 17) dX3_isThing_16 rfl ?_
      obtain ⟨x17, g17, h⟩ := h
      refine wp_gI (n := 18) dX3_isThing_17 rfl g17 ?_
      refine wp_iconst (n := 19) (v := (-1)) dX3_isThing_18 rfl (by decide) ?_
      refine wp_icmp_eq (n := 22) (t := 26) dX3_isThing_19 rfl (by decide) (fun c19 => ?_) (fun c19 => ?_)
      · replace h := h.1 c19
        refine wp_iconst (n := 27) (v := 0) dX3_isThing_26 rfl (by decide) ?_
        exact wp_zreturn dX3_isThing_27 rfl (by decide) h
      · replace h := h.2 c19
        refine wp_iconst (n := 23) (v := 1) dX3_isThing_22 rfl (by decide) ?_
        refine wp_goto (t := 27) dX3_isThing_23 (by decide) ?_
        exact wp_zreturn dX3_isThing_27 rfl (by decide) h
  · exact h.elim
set_option maxHeartbeats 1000000 in
theorem sg_X3_isUnder_0 {i0 : Int32} {i1 : Int32} {rc rs : Nat} {QR : Option aV → aW → Prop} {QX : String → aW → Prop} {w : aW} (h : (i0 = i1 → QR (some (vI 1)) w) ∧ (¬ i0 = i1 → (¬ i0 = 1 → (¬ i0 = 3 → QR (some (vI 0)) w) ∧ (i0 = 3 → (¬ i1 = 2 → QR (some (vI 0)) w) ∧ (i1 = 2 → QR (some (vI 1)) w))) ∧ (i0 = 1 → (i1 = 0 → QR (some (vI 1)) w) ∧ (¬ i1 = 0 → (¬ i0 = 3 → QR (some (vI 0)) w) ∧ (i0 = 3 → (¬ i1 = 2 → QR (some (vI 0)) w) ∧ (i1 = 2 → QR (some (vI 1)) w)))))) : wp (KX3_isUnder) rc rs QR QX 0 [(0, vI i0), (1, vI i1)] [] w := by
  refine wp_iload_n (n := 1) (i := 0) (q := 0) dX3_isUnder_0 rfl rfl rfl ?_
  refine wp_iload_n (n := 2) (i := 1) (q := 1) dX3_isUnder_1 rfl rfl rfl ?_
  refine wp_icmp_eq (n := 5) (t := 24) dX3_isUnder_2 rfl (by decide) (fun c2 => ?_) (fun c2 => ?_)
  · replace h := h.1 c2
    refine wp_iconst (n := 25) (v := 1) dX3_isUnder_24 rfl (by decide) ?_
    refine wp_goto (t := 29) dX3_isUnder_25 (by decide) ?_
    exact wp_zreturn dX3_isUnder_29 rfl (by decide) h
  · replace h := h.2 c2
    refine wp_iload_n (n := 6) (i := 0) (q := 0) dX3_isUnder_5 rfl rfl rfl ?_
    refine wp_iconst (n := 7) (v := 1) dX3_isUnder_6 rfl (by decide) ?_
    refine wp_icmp_ne (n := 10) (t := 14) dX3_isUnder_7 rfl (by decide) (fun c7 => ?_) (fun c7 => ?_)
    · replace h := h.1 c7
      refine wp_iload_n (n := 15) (i := 0) (q := 0) dX3_isUnder_14 rfl rfl rfl ?_
      refine wp_iconst (n := 16) (v := 3) dX3_isUnder_15 rfl (by decide) ?_
      refine wp_icmp_ne (n := 19) (t := 28) dX3_isUnder_16 rfl (by decide) (fun c16 => ?_) (fun c16 => ?_)
      · replace h := h.1 c16
        refine wp_iconst (n := 29) (v := 0) dX3_isUnder_28 rfl (by decide) ?_
        exact wp_zreturn dX3_isUnder_29 rfl (by decide) h
      · replace h := h.2 c16
        refine wp_iload_n (n := 20) (i := 1) (q := 1) dX3_isUnder_19 rfl rfl rfl ?_
        refine wp_iconst (n := 21) (v := 2) dX3_isUnder_20 rfl (by decide) ?_
        refine wp_icmp_ne (n := 24) (t := 28) dX3_isUnder_21 rfl (by decide) (fun c21 => ?_) (fun c21 => ?_)
        · replace h := h.1 c21
          refine wp_iconst (n := 29) (v := 0) dX3_isUnder_28 rfl (by decide) ?_
          exact wp_zreturn dX3_isUnder_29 rfl (by decide) h
        · replace h := h.2 c21
          refine wp_iconst (n := 25) (v := 1) dX3_isUnder_24 rfl (by decide) ?_
          refine wp_goto (t := 29) dX3_isUnder_25 (by decide) ?_
          exact wp_zreturn dX3_isUnder_29 rfl (by decide) h
    · replace h := h.2 c7
      refine wp_iload_n (n := 11) (i := 1) (q := 1) dX3_isUnder_10 rfl rfl rfl ?_
      refine wp_if_eq (n := 14) (t := 24) dX3_isUnder_11 rfl (by decide) (fun c11 => ?_) (fun c11 => ?_)
      · replace h := h.1 c11
        refine wp_iconst (n := 25) (v := 1) dX3_isUnder_24 rfl (by decide) ?_
        refine wp_goto (t := 29) dX3_isUnder_25 (by decide) ?_
        exact wp_zreturn dX3_isUnder_29 rfl (by decide) h
      · replace h := h.2 c11
        refine wp_iload_n (n := 15) (i := 0) (q := 0) dX3_isUnder_14 rfl rfl rfl ?_
        refine wp_iconst (n := 16) (v := 3) dX3_isUnder_15 rfl (by decide) ?_
        refine wp_icmp_ne (n := 19) (t := 28) dX3_isUnder_16 rfl (by decide) (fun c16 => ?_) (fun c16 => ?_)
        · replace h := h.1 c16
          refine wp_iconst (n := 29) (v := 0) dX3_isUnder_28 rfl (by decide) ?_
          exact wp_zreturn dX3_isUnder_29 rfl (by decide) h
        · replace h := h.2 c16
          refine wp_iload_n (n := 20) (i := 1) (q := 1) dX3_isUnder_19 rfl rfl rfl ?_
          refine wp_iconst (n := 21) (v := 2) dX3_isUnder_20 rfl (by decide) ?_
          refine wp_icmp_ne (n := 24) (t := 28) dX3_isUnder_21 rfl (by decide) (fun c21 => ?_) (fun c21 => ?_)
          · replace h := h.1 c21
            refine wp_iconst (n := 29) (v := 0) dX3_isUnder_28 rfl (by decide) ?_
            exact wp_zreturn dX3_isUnder_29 rfl (by decide) h
          · replace h := h.2 c21
            refine wp_iconst (n := 25) (v := 1) dX3_isUnder_24 rfl (by decide) ?_
            refine wp_goto (t := 29) dX3_isUnder_25 (by decide) ?_
            exact wp_zreturn dX3_isUnder_29 rfl (by decide) h
set_option maxHeartbeats 1000000 in
theorem sg_X3_isFiles_0 {h0 : Nat} {i1 : Int32} {rc rs : Nat} {QR : Option aV → aW → Prop} {QX : String → aW → Prop} {w : aW} (h : isO w h0 3 ∧ ct (KX3_isThing) 0 0 [vR (some h0), vI i1] w (fun v2 w2 => ∃ x2 : Int32, v2 = some (vI x2) ∧ (x2 = 0 → QR (some (vI 0)) w2) ∧ (¬ x2 = 0 → ∃ x9 : Nat, gf w2 h0 [3] 1 (vR (some x9)) ∧ ∃ x15 : Int32, gI w2 x9 (2 + i1) x15 ∧ ct (KX3_isUnder) 0 0 [vI x15, vI 0] w2 (fun v17 w17 => ∃ x17 : Int32, v17 = some (vI x17) ∧ (x17 = 0 → QR (some (vI 0)) w17) ∧ (¬ x17 = 0 → QR (some (vI 1)) w17)) (fun E17 w17 => False))) (fun E2 w2 => False)) : wp (KX3_isFiles) rc rs QR QX 0 [(0, vR (some h0)), (1, vI i1)] [] w := by
  refine wp_aload_n (n := 1) (i := 0) (q := 0) dX3_isFiles_0 rfl rfl rfl ?_
  refine wp_iload_n (n := 2) (i := 1) (q := 1) dX3_isFiles_1 rfl rfl rfl ?_
  obtain ⟨⟨fs2, o2⟩, h⟩ := h
  refine wp_call (n := 5) (K' := KX3_isThing) (rc' := rc) (rs' := rs) (aRun_V (K' := KX3_isThing) (As := [vI i1]) (rest := []) (b := h0) (c0 := .inr (3, fs2)) dX3_isFiles_2 (aCal_of kf_X3_isThing (Nat.le_of_ble_eq_true rfl)) q1100 q1102 qs55 ar_X3_isThing o2 (by decide : 3 < 9) rfl (Nat.le_of_ble_eq_true rfl)) rfl (Nat.le_of_eq (Nat.zero_add _)) (Nat.le_of_eq (Nat.zero_add _)) (fun v2 w2 h => ?_) (fun E2 w2 h => ?_) h
  · obtain ⟨x2, rfl, h⟩ := h
    refine wp_if_eq (n := 8) (t := 27) dX3_isFiles_5 rfl (by decide) (fun c5 => ?_) (fun c5 => ?_)
    · replace h := h.1 c5
      refine wp_iconst (n := 28) (v := 0) dX3_isFiles_27 rfl (by decide) ?_
      exact wp_zreturn dX3_isFiles_28 rfl (by decide) h
    · replace h := h.2 c5
      refine wp_aload_n (n := 9) (i := 0) (q := 0) dX3_isFiles_8 rfl rfl rfl ?_
      obtain ⟨x9, g9, h⟩ := h
      refine wp_gf (n := 12) dX3_isFiles_9 rfl fl_X3_7 g9 ?_
      refine wp_iconst (n := 13) (v := 2) dX3_isFiles_12 rfl (by decide) ?_
      refine wp_iload_n (n := 14) (i := 1) (q := 1) dX3_isFiles_13 rfl rfl rfl ?_
      refine wp_iadd (n := 15) dX3_isFiles_14 rfl ?_
      obtain ⟨x15, g15, h⟩ := h
      refine wp_gI (n := 16) dX3_isFiles_15 rfl g15 ?_
      refine wp_iconst (n := 17) (v := 0) dX3_isFiles_16 rfl (by decide) ?_
      refine wp_call (n := 20) (K' := KX3_isUnder) (rc' := rc) (rs' := rs) (aRun_S (K' := KX3_isUnder) (As := [vI x15, vI 0]) (rest := []) dX3_isFiles_17 (aCal_of kf_X3_isUnder (Nat.le_of_ble_eq_true rfl)) rfl q1104 q1105 ar_X3_isUnder rfl (Nat.le_of_ble_eq_true rfl)) rfl (Nat.le_of_eq (Nat.zero_add _)) (Nat.le_of_eq (Nat.zero_add _)) (fun v17 w17 h => ?_) (fun E17 w17 h => ?_) h
      · obtain ⟨x17, rfl, h⟩ := h
        refine wp_if_eq (n := 23) (t := 27) dX3_isFiles_20 rfl (by decide) (fun c20 => ?_) (fun c20 => ?_)
        · replace h := h.1 c20
          refine wp_iconst (n := 28) (v := 0) dX3_isFiles_27 rfl (by decide) ?_
          exact wp_zreturn dX3_isFiles_28 rfl (by decide) h
        · replace h := h.2 c20
          refine wp_iconst (n := 24) (v := 1) dX3_isFiles_23 rfl (by decide) ?_
          refine wp_goto (t := 28) dX3_isFiles_24 (by decide) ?_
          exact wp_zreturn dX3_isFiles_28 rfl (by decide) h
      · exact h.elim
  · exact h.elim
set_option maxHeartbeats 1000000 in
theorem sg_X3_isSnapshot_0 {h0 : Nat} {i1 : Int32} {rc rs : Nat} {QR : Option aV → aW → Prop} {QX : String → aW → Prop} {w : aW} (h : isO w h0 3 ∧ ct (KX3_isThing) 0 0 [vR (some h0), vI i1] w (fun v2 w2 => ∃ x2 : Int32, v2 = some (vI x2) ∧ (x2 = 0 → QR (some (vI 0)) w2) ∧ (¬ x2 = 0 → ∃ x9 : Nat, gf w2 h0 [3] 1 (vR (some x9)) ∧ ∃ x15 : Int32, gI w2 x9 (2 + i1) x15 ∧ ct (KX3_isUnder) 0 0 [vI x15, vI 2] w2 (fun v17 w17 => ∃ x17 : Int32, v17 = some (vI x17) ∧ (x17 = 0 → QR (some (vI 0)) w17) ∧ (¬ x17 = 0 → QR (some (vI 1)) w17)) (fun E17 w17 => False))) (fun E2 w2 => False)) : wp (KX3_isSnapshot) rc rs QR QX 0 [(0, vR (some h0)), (1, vI i1)] [] w := by
  refine wp_aload_n (n := 1) (i := 0) (q := 0) dX3_isSnapshot_0 rfl rfl rfl ?_
  refine wp_iload_n (n := 2) (i := 1) (q := 1) dX3_isSnapshot_1 rfl rfl rfl ?_
  obtain ⟨⟨fs2, o2⟩, h⟩ := h
  refine wp_call (n := 5) (K' := KX3_isThing) (rc' := rc) (rs' := rs) (aRun_V (K' := KX3_isThing) (As := [vI i1]) (rest := []) (b := h0) (c0 := .inr (3, fs2)) dX3_isSnapshot_2 (aCal_of kf_X3_isThing (Nat.le_of_ble_eq_true rfl)) q1100 q1102 qs55 ar_X3_isThing o2 (by decide : 3 < 9) rfl (Nat.le_of_ble_eq_true rfl)) rfl (Nat.le_of_eq (Nat.zero_add _)) (Nat.le_of_eq (Nat.zero_add _)) (fun v2 w2 h => ?_) (fun E2 w2 h => ?_) h
  · obtain ⟨x2, rfl, h⟩ := h
    refine wp_if_eq (n := 8) (t := 27) dX3_isSnapshot_5 rfl (by decide) (fun c5 => ?_) (fun c5 => ?_)
    · replace h := h.1 c5
      refine wp_iconst (n := 28) (v := 0) dX3_isSnapshot_27 rfl (by decide) ?_
      exact wp_zreturn dX3_isSnapshot_28 rfl (by decide) h
    · replace h := h.2 c5
      refine wp_aload_n (n := 9) (i := 0) (q := 0) dX3_isSnapshot_8 rfl rfl rfl ?_
      obtain ⟨x9, g9, h⟩ := h
      refine wp_gf (n := 12) dX3_isSnapshot_9 rfl fl_X3_7 g9 ?_
      refine wp_iconst (n := 13) (v := 2) dX3_isSnapshot_12 rfl (by decide) ?_
      refine wp_iload_n (n := 14) (i := 1) (q := 1) dX3_isSnapshot_13 rfl rfl rfl ?_
      refine wp_iadd (n := 15) dX3_isSnapshot_14 rfl ?_
      obtain ⟨x15, g15, h⟩ := h
      refine wp_gI (n := 16) dX3_isSnapshot_15 rfl g15 ?_
      refine wp_iconst (n := 17) (v := 2) dX3_isSnapshot_16 rfl (by decide) ?_
      refine wp_call (n := 20) (K' := KX3_isUnder) (rc' := rc) (rs' := rs) (aRun_S (K' := KX3_isUnder) (As := [vI x15, vI 2]) (rest := []) dX3_isSnapshot_17 (aCal_of kf_X3_isUnder (Nat.le_of_ble_eq_true rfl)) rfl q1104 q1105 ar_X3_isUnder rfl (Nat.le_of_ble_eq_true rfl)) rfl (Nat.le_of_eq (Nat.zero_add _)) (Nat.le_of_eq (Nat.zero_add _)) (fun v17 w17 h => ?_) (fun E17 w17 h => ?_) h
      · obtain ⟨x17, rfl, h⟩ := h
        refine wp_if_eq (n := 23) (t := 27) dX3_isSnapshot_20 rfl (by decide) (fun c20 => ?_) (fun c20 => ?_)
        · replace h := h.1 c20
          refine wp_iconst (n := 28) (v := 0) dX3_isSnapshot_27 rfl (by decide) ?_
          exact wp_zreturn dX3_isSnapshot_28 rfl (by decide) h
        · replace h := h.2 c20
          refine wp_iconst (n := 24) (v := 1) dX3_isSnapshot_23 rfl (by decide) ?_
          refine wp_goto (t := 28) dX3_isSnapshot_24 (by decide) ?_
          exact wp_zreturn dX3_isSnapshot_28 rfl (by decide) h
      · exact h.elim
  · exact h.elim
set_option maxHeartbeats 1000000 in
theorem sg_X3_hasSlots_0 {h0 : Nat} {i1 : Int32} {rc rs : Nat} {QR : Option aV → aW → Prop} {QX : String → aW → Prop} {w : aW} (h : isO w h0 3 ∧ ct (KX3_isFiles) 0 0 [vR (some h0), vI i1] w (fun v2 w2 => ∃ x2 : Int32, v2 = some (vI x2) ∧ (¬ x2 = 0 → QR (some (vI 1)) w2) ∧ (x2 = 0 → isO w2 h0 3 ∧ ct (KX3_isSnapshot) 0 0 [vR (some h0), vI i1] w2 (fun v10 w10 => ∃ x10 : Int32, v10 = some (vI x10) ∧ (x10 = 0 → QR (some (vI 0)) w10) ∧ (¬ x10 = 0 → QR (some (vI 1)) w10)) (fun E10 w10 => False))) (fun E2 w2 => False)) : wp (KX3_hasSlots) rc rs QR QX 0 [(0, vR (some h0)), (1, vI i1)] [] w := by
  refine wp_aload_n (n := 1) (i := 0) (q := 0) dX3_hasSlots_0 rfl rfl rfl ?_
  refine wp_iload_n (n := 2) (i := 1) (q := 1) dX3_hasSlots_1 rfl rfl rfl ?_
  obtain ⟨⟨fs2, o2⟩, h⟩ := h
  refine wp_call (n := 5) (K' := KX3_isFiles) (rc' := rc) (rs' := rs) (aRun_V (K' := KX3_isFiles) (As := [vI i1]) (rest := []) (b := h0) (c0 := .inr (3, fs2)) dX3_hasSlots_2 (aCal_of kf_X3_isFiles (Nat.le_of_ble_eq_true rfl)) q1135 q1137 qs63 ar_X3_isFiles o2 (by decide : 3 < 9) rfl (Nat.le_of_ble_eq_true rfl)) rfl (Nat.le_of_eq (Nat.zero_add _)) (Nat.le_of_eq (Nat.zero_add _)) (fun v2 w2 h => ?_) (fun E2 w2 h => ?_) h
  · obtain ⟨x2, rfl, h⟩ := h
    refine wp_if_ne (n := 8) (t := 16) dX3_hasSlots_5 rfl (by decide) (fun c5 => ?_) (fun c5 => ?_)
    · replace h := h.1 c5
      refine wp_iconst (n := 17) (v := 1) dX3_hasSlots_16 rfl (by decide) ?_
      refine wp_goto (t := 21) dX3_hasSlots_17 (by decide) ?_
      exact wp_zreturn dX3_hasSlots_21 rfl (by decide) h
    · replace h := h.2 c5
      refine wp_aload_n (n := 9) (i := 0) (q := 0) dX3_hasSlots_8 rfl rfl rfl ?_
      refine wp_iload_n (n := 10) (i := 1) (q := 1) dX3_hasSlots_9 rfl rfl rfl ?_
      obtain ⟨⟨fs10, o10⟩, h⟩ := h
      refine wp_call (n := 13) (K' := KX3_isSnapshot) (rc' := rc) (rs' := rs) (aRun_V (K' := KX3_isSnapshot) (As := [vI i1]) (rest := []) (b := h0) (c0 := .inr (3, fs10)) dX3_hasSlots_10 (aCal_of kf_X3_isSnapshot (Nat.le_of_ble_eq_true rfl)) q1139 q1141 qs64 ar_X3_isSnapshot o10 (by decide : 3 < 9) rfl (Nat.le_of_ble_eq_true rfl)) rfl (Nat.le_of_eq (Nat.zero_add _)) (Nat.le_of_eq (Nat.zero_add _)) (fun v10 w10 h => ?_) (fun E10 w10 h => ?_) h
      · obtain ⟨x10, rfl, h⟩ := h
        refine wp_if_eq (n := 16) (t := 20) dX3_hasSlots_13 rfl (by decide) (fun c13 => ?_) (fun c13 => ?_)
        · replace h := h.1 c13
          refine wp_iconst (n := 21) (v := 0) dX3_hasSlots_20 rfl (by decide) ?_
          exact wp_zreturn dX3_hasSlots_21 rfl (by decide) h
        · replace h := h.2 c13
          refine wp_iconst (n := 17) (v := 1) dX3_hasSlots_16 rfl (by decide) ?_
          refine wp_goto (t := 21) dX3_hasSlots_17 (by decide) ?_
          exact wp_zreturn dX3_hasSlots_21 rfl (by decide) h
      · exact h.elim
  · exact h.elim
set_option maxHeartbeats 1000000 in
theorem sg_X3_counts_0 {h0 : Nat} {rc rs : Nat} {QR : Option aV → aW → Prop} {QX : String → aW → Prop} {w : aW} (h : wp (KX3_counts) rc rs QR QX 2 [(0, vR (some h0)), (1, vI 0)] [] w) : wp (KX3_counts) rc rs QR QX 0 [(0, vR (some h0))] [] w := by
  refine wp_iconst (n := 1) (v := 0) dX3_counts_0 rfl (by decide) ?_
  refine wp_istore_n (n := 2) (i := 1) (ls' := [(1, vI 0), (0, vR (some h0))]) dX3_counts_1 rfl rfl (Nat.le_of_ble_eq_true rfl) rfl ?_
  exact wp_sub [1, 0] rfl h
set_option maxHeartbeats 1000000 in
theorem sg_X3_counts_2 {h0 : Nat} {i1 : Int32} {rc rs : Nat} {QR : Option aV → aW → Prop} {QX : String → aW → Prop} {w : aW} (h : (96 ≤ i1 → wp (KX3_counts) rc rs QR QX 23 [(0, vR (some h0)), (1, vI 0)] [] w) ∧ (¬ 96 ≤ i1 → ∃ x9 : Nat, gf w h0 [3] 5 (vR (some x9)) ∧ pI w x9 i1 0 (fun w14 => wp (KX3_counts) rc rs QR QX 2 [(0, vR (some h0)), (1, vI (i1 + 1))] [] w14))) : wp (KX3_counts) rc rs QR QX 2 [(0, vR (some h0)), (1, vI i1)] [] w := by
  refine wp_iload_n (n := 3) (i := 1) (q := 1) dX3_counts_2 rfl rfl rfl ?_
  refine wp_bipush (n := 5) (v := 96) dX3_counts_3 rfl (by decide) ?_
  refine wp_icmp_ge (n := 8) (t := 21) dX3_counts_5 rfl (by decide) (fun c5 => ?_) (fun c5 => ?_)
  · replace h := h.1 c5
    refine wp_iconst (n := 22) (v := 0) dX3_counts_21 rfl (by decide) ?_
    refine wp_istore_n (n := 23) (i := 1) (ls' := [(1, vI 0), (0, vR (some h0))]) dX3_counts_22 rfl rfl (Nat.le_of_ble_eq_true rfl) rfl ?_
    exact wp_sub [1, 0] rfl h
  · replace h := h.2 c5
    refine wp_aload_n (n := 9) (i := 0) (q := 0) dX3_counts_8 rfl rfl rfl ?_
    obtain ⟨x9, g9, h⟩ := h
    refine wp_gf (n := 12) dX3_counts_9 rfl fl_X3_19 g9 ?_
    refine wp_iload_n (n := 13) (i := 1) (q := 1) dX3_counts_12 rfl rfl rfl ?_
    refine wp_iconst (n := 14) (v := 0) dX3_counts_13 rfl (by decide) ?_
    refine wp_pI (n := 15) dX3_counts_14 rfl (pI_mono h (fun w14 h => ?_))
    refine wp_iinc (n := 18) (i := 1) (q := 1) (v := i1 + 1) (ls' := [(1, vI (i1 + 1)), (0, vR (some h0))]) dX3_counts_15 rfl rfl rfl (Nat.le_of_ble_eq_true rfl) rfl ?_
    refine wp_goto (t := 2) dX3_counts_18 (by decide) ?_
    exact wp_sub [1, 0] rfl h
set_option maxHeartbeats 1000000 in
theorem sg_X3_counts_23 {h0 : Nat} {i1 : Int32} {rc rs : Nat} {QR : Option aV → aW → Prop} {QX : String → aW → Prop} {w : aW} (h : (20 ≤ i1 → QR none w) ∧ (¬ 20 ≤ i1 → wp (KX3_counts) rc rs QR QX 31 [(0, vR (some h0)), (1, vI i1), (2, vI 0)] [] w)) : wp (KX3_counts) rc rs QR QX 23 [(0, vR (some h0)), (1, vI i1)] [] w := by
  refine wp_iload_n (n := 24) (i := 1) (q := 1) dX3_counts_23 rfl rfl rfl ?_
  refine wp_bipush (n := 26) (v := 20) dX3_counts_24 rfl (by decide) ?_
  refine wp_icmp_ge (n := 29) (t := 87) dX3_counts_26 rfl (by decide) (fun c26 => ?_) (fun c26 => ?_)
  · replace h := h.1 c26
    exact wp_return dX3_counts_87 rfl h
  · replace h := h.2 c26
    refine wp_iconst (n := 30) (v := 0) dX3_counts_29 rfl (by decide) ?_
    refine wp_istore_n (n := 31) (i := 2) (ls' := [(2, vI 0), (0, vR (some h0)), (1, vI i1)]) dX3_counts_30 rfl rfl (Nat.le_of_ble_eq_true rfl) rfl ?_
    exact wp_sub [1, 2, 0] rfl h
set_option maxHeartbeats 1000000 in
theorem sg_X3_counts_31 {h0 : Nat} {i1 : Int32} {i2 : Int32} {rc rs : Nat} {QR : Option aV → aW → Prop} {QX : String → aW → Prop} {w : aW} (h : (12 ≤ i2 → wp (KX3_counts) rc rs QR QX 23 [(0, vR (some h0)), (1, vI (i1 + 1))] [] w) ∧ (¬ 12 ≤ i2 → isO w h0 3 ∧ ct (KX3_hasSlots) 0 0 [vR (some h0), vI i1] w (fun v39 w39 => ∃ x39 : Int32, v39 = some (vI x39) ∧ (x39 = 0 → wp (KX3_counts) rc rs QR QX 23 [(0, vR (some h0)), (1, vI (i1 + 1))] [] w39) ∧ (¬ x39 = 0 → ∃ x46 : Nat, gf w39 h0 [3] 1 (vR (some x46)) ∧ ∃ x58 : Int32, gI w39 x46 ((122 + (12 * i1)) + i2) x58 ∧ (x58 = (-1) → wp (KX3_counts) rc rs QR QX 31 [(0, vR (some h0)), (1, vI i1), (2, vI (i2 + 1))] [] w39) ∧ (¬ x58 = (-1) → ∃ x66 : Nat, gf w39 h0 [3] 5 (vR (some x66)) ∧ ∃ x71 : Int32, gI w39 x66 x58 x71 ∧ pI w39 x66 x58 (x71 + 1) (fun w74 => wp (KX3_counts) rc rs QR QX 31 [(0, vR (some h0)), (1, vI i1), (2, vI (i2 + 1))] [] w74)))) (fun E39 w39 => False))) : wp (KX3_counts) rc rs QR QX 31 [(0, vR (some h0)), (1, vI i1), (2, vI i2)] [] w := by
  refine wp_iload_n (n := 32) (i := 2) (q := 2) dX3_counts_31 rfl rfl rfl ?_
  refine wp_bipush (n := 34) (v := 12) dX3_counts_32 rfl (by decide) ?_
  refine wp_icmp_ge (n := 37) (t := 81) dX3_counts_34 rfl (by decide) (fun c34 => ?_) (fun c34 => ?_)
  · replace h := h.1 c34
    refine wp_iinc (n := 84) (i := 1) (q := 1) (v := i1 + 1) (ls' := [(1, vI (i1 + 1)), (0, vR (some h0)), (2, vI i2)]) dX3_counts_81 rfl rfl rfl (Nat.le_of_ble_eq_true rfl) rfl ?_
    refine wp_goto (t := 23) dX3_counts_84 (by decide) ?_
    exact wp_sub [1, 0] rfl h
  · replace h := h.2 c34
    refine wp_aload_n (n := 38) (i := 0) (q := 0) dX3_counts_37 rfl rfl rfl ?_
    refine wp_iload_n (n := 39) (i := 1) (q := 1) dX3_counts_38 rfl rfl rfl ?_
    obtain ⟨⟨fs39, o39⟩, h⟩ := h
    refine wp_call (n := 42) (K' := KX3_hasSlots) (rc' := rc) (rs' := rs) (aRun_V (K' := KX3_hasSlots) (As := [vI i1]) (rest := []) (b := h0) (c0 := .inr (3, fs39)) dX3_counts_39 (aCal_of kf_X3_hasSlots (Nat.le_of_ble_eq_true rfl)) q1131 q1133 qs62 ar_X3_hasSlots o39 (by decide : 3 < 9) rfl (Nat.le_of_ble_eq_true rfl)) rfl (Nat.le_of_eq (Nat.zero_add _)) (Nat.le_of_eq (Nat.zero_add _)) (fun v39 w39 h => ?_) (fun E39 w39 h => ?_) h
    · obtain ⟨x39, rfl, h⟩ := h
      refine wp_if_eq (n := 45) (t := 81) dX3_counts_42 rfl (by decide) (fun c42 => ?_) (fun c42 => ?_)
      · replace h := h.1 c42
        refine wp_iinc (n := 84) (i := 1) (q := 1) (v := i1 + 1) (ls' := [(1, vI (i1 + 1)), (0, vR (some h0)), (2, vI i2)]) dX3_counts_81 rfl rfl rfl (Nat.le_of_ble_eq_true rfl) rfl ?_
        refine wp_goto (t := 23) dX3_counts_84 (by decide) ?_
        exact wp_sub [1, 0] rfl h
      · replace h := h.2 c42
        refine wp_aload_n (n := 46) (i := 0) (q := 0) dX3_counts_45 rfl rfl rfl ?_
        obtain ⟨x46, g46, h⟩ := h
        refine wp_gf (n := 49) dX3_counts_46 rfl fl_X3_7 g46 ?_
        refine wp_bipush (n := 51) (v := 122) dX3_counts_49 rfl (by decide) ?_
        refine wp_bipush (n := 53) (v := 12) dX3_counts_51 rfl (by decide) ?_
        refine wp_iload_n (n := 54) (i := 1) (q := 1) dX3_counts_53 rfl rfl rfl ?_
        refine wp_imul (n := 55) dX3_counts_54 rfl ?_
        refine wp_iadd (n := 56) dX3_counts_55 rfl ?_
        refine wp_iload_n (n := 57) (i := 2) (q := 2) dX3_counts_56 rfl rfl rfl ?_
        refine wp_iadd (n := 58) dX3_counts_57 rfl ?_
        obtain ⟨x58, g58, h⟩ := h
        refine wp_gI (n := 59) dX3_counts_58 rfl g58 ?_
        refine wp_istore_n (n := 60) (i := 3) (ls' := [(3, vI x58), (0, vR (some h0)), (1, vI i1), (2, vI i2)]) dX3_counts_59 rfl rfl (Nat.le_of_ble_eq_true rfl) rfl ?_
        refine wp_iload_n (n := 61) (i := 3) (q := 0) dX3_counts_60 rfl rfl rfl ?_
        refine wp_iconst (n := 62) (v := (-1)) dX3_counts_61 rfl (by decide) ?_
        refine wp_icmp_eq (n := 65) (t := 75) dX3_counts_62 rfl (by decide) (fun c62 => ?_) (fun c62 => ?_)
        · replace h := h.1 c62
          refine wp_iinc (n := 78) (i := 2) (q := 3) (v := i2 + 1) (ls' := [(2, vI (i2 + 1)), (3, vI x58), (0, vR (some h0)), (1, vI i1)]) dX3_counts_75 rfl rfl rfl (Nat.le_of_ble_eq_true rfl) rfl ?_
          refine wp_goto (t := 31) dX3_counts_78 (by decide) ?_
          exact wp_sub [2, 3, 0] rfl h
        · replace h := h.2 c62
          refine wp_aload_n (n := 66) (i := 0) (q := 1) dX3_counts_65 rfl rfl rfl ?_
          obtain ⟨x66, g66, h⟩ := h
          refine wp_gf (n := 69) dX3_counts_66 rfl fl_X3_19 g66 ?_
          refine wp_iload_n (n := 70) (i := 3) (q := 0) dX3_counts_69 rfl rfl rfl ?_
          refine wp_dup2_11 (n := 71) dX3_counts_70 rfl rfl rfl ?_
          obtain ⟨x71, g71, h⟩ := h
          refine wp_gI (n := 72) dX3_counts_71 rfl g71 ?_
          refine wp_iconst (n := 73) (v := 1) dX3_counts_72 rfl (by decide) ?_
          refine wp_iadd (n := 74) dX3_counts_73 rfl ?_
          refine wp_pI (n := 75) dX3_counts_74 rfl (pI_mono h (fun w74 h => ?_))
          refine wp_iinc (n := 78) (i := 2) (q := 3) (v := i2 + 1) (ls' := [(2, vI (i2 + 1)), (3, vI x58), (0, vR (some h0)), (1, vI i1)]) dX3_counts_75 rfl rfl rfl (Nat.le_of_ble_eq_true rfl) rfl ?_
          refine wp_goto (t := 31) dX3_counts_78 (by decide) ?_
          exact wp_sub [2, 3, 0] rfl h
    · exact h.elim
set_option maxHeartbeats 1000000 in
theorem sg_X3_isHeld_0 {h0 : Nat} {i1 : Int32} {i2 : Int32} {rc rs : Nat} {QR : Option aV → aW → Prop} {QX : String → aW → Prop} {w : aW} (h : wp (KX3_isHeld) rc rs QR QX 5 [(0, vR (some h0)), (1, vI i1), (2, vI i2), (3, vI 0), (4, vI 0)] [] w) : wp (KX3_isHeld) rc rs QR QX 0 [(0, vR (some h0)), (1, vI i1), (2, vI i2)] [] w := by
  refine wp_iconst (n := 1) (v := 0) dX3_isHeld_0 rfl (by decide) ?_
  refine wp_istore_n (n := 2) (i := 3) (ls' := [(3, vI 0), (0, vR (some h0)), (1, vI i1), (2, vI i2)]) dX3_isHeld_1 rfl rfl (Nat.le_of_ble_eq_true rfl) rfl ?_
  refine wp_iconst (n := 3) (v := 0) dX3_isHeld_2 rfl (by decide) ?_
  refine wp_istore (n := 5) (i := 4) (ls' := [(4, vI 0), (3, vI 0), (0, vR (some h0)), (1, vI i1), (2, vI i2)]) dX3_isHeld_3 rfl (Nat.le_of_ble_eq_true rfl) rfl ?_
  exact wp_sub [2, 3, 4, 1, 0] rfl h
set_option maxHeartbeats 1000000 in
theorem sg_X3_isHeld_5 {h0 : Nat} {i1 : Int32} {i2 : Int32} {i3 : Int32} {i4 : Int32} {rc rs : Nat} {QR : Option aV → aW → Prop} {QX : String → aW → Prop} {w : aW} (h : (12 ≤ i4 → narrow .boolean (.int i3) = .int i3 ∧ QR (some (vI i3)) w) ∧ (¬ 12 ≤ i4 → (¬ i3 = 0 → wp (KX3_isHeld) rc rs QR QX 5 [(0, vR (some h0)), (1, vI i1), (2, vI i2), (3, vI 1), (4, vI (i4 + 1))] [] w) ∧ (i3 = 0 → isO w h0 3 ∧ ct (KX3_hasSlots) 0 0 [vR (some h0), vI i1] w (fun v18 w18 => ∃ x18 : Int32, v18 = some (vI x18) ∧ (x18 = 0 → wp (KX3_isHeld) rc rs QR QX 5 [(0, vR (some h0)), (1, vI i1), (2, vI i2), (3, vI 0), (4, vI (i4 + 1))] [] w18) ∧ (¬ x18 = 0 → ∃ x25 : Nat, gf w18 h0 [3] 1 (vR (some x25)) ∧ ∃ x38 : Int32, gI w18 x25 ((122 + (12 * i1)) + i4) x38 ∧ (¬ x38 = i2 → wp (KX3_isHeld) rc rs QR QX 5 [(0, vR (some h0)), (1, vI i1), (2, vI i2), (3, vI 0), (4, vI (i4 + 1))] [] w18) ∧ (x38 = i2 → wp (KX3_isHeld) rc rs QR QX 5 [(0, vR (some h0)), (1, vI i1), (2, vI i2), (3, vI 1), (4, vI (i4 + 1))] [] w18))) (fun E18 w18 => False)))) : wp (KX3_isHeld) rc rs QR QX 5 [(0, vR (some h0)), (1, vI i1), (2, vI i2), (3, vI i3), (4, vI i4)] [] w := by
  refine wp_iload (n := 7) (i := 4) (q := 4) dX3_isHeld_5 rfl rfl ?_
  refine wp_bipush (n := 9) (v := 12) dX3_isHeld_7 rfl (by decide) ?_
  refine wp_icmp_ge (n := 12) (t := 55) dX3_isHeld_9 rfl (by decide) (fun c9 => ?_) (fun c9 => ?_)
  · replace h := h.1 c9
    refine wp_iload_n (n := 56) (i := 3) (q := 3) dX3_isHeld_55 rfl rfl rfl ?_
    exact wp_zreturn dX3_isHeld_56 rfl h.1 h.2
  · replace h := h.2 c9
    refine wp_iload_n (n := 13) (i := 3) (q := 3) dX3_isHeld_12 rfl rfl rfl ?_
    refine wp_if_ne (n := 16) (t := 43) dX3_isHeld_13 rfl (by decide) (fun c13 => ?_) (fun c13 => ?_)
    · replace h := h.1 c13
      refine wp_iconst (n := 44) (v := 1) dX3_isHeld_43 rfl (by decide) ?_
      refine wp_goto (t := 48) dX3_isHeld_44 (by decide) ?_
      refine wp_istore_n (n := 49) (i := 3) (ls' := [(3, vI 1), (0, vR (some h0)), (1, vI i1), (2, vI i2), (4, vI i4)]) dX3_isHeld_48 rfl rfl (Nat.le_of_ble_eq_true rfl) rfl ?_
      refine wp_iinc (n := 52) (i := 4) (q := 4) (v := i4 + 1) (ls' := [(4, vI (i4 + 1)), (3, vI 1), (0, vR (some h0)), (1, vI i1), (2, vI i2)]) dX3_isHeld_49 rfl rfl rfl (Nat.le_of_ble_eq_true rfl) rfl ?_
      refine wp_goto (t := 5) dX3_isHeld_52 (by decide) ?_
      exact wp_sub [2, 3, 4, 1, 0] rfl h
    · replace h := h.2 c13
      refine wp_aload_n (n := 17) (i := 0) (q := 0) dX3_isHeld_16 rfl rfl rfl ?_
      refine wp_iload_n (n := 18) (i := 1) (q := 1) dX3_isHeld_17 rfl rfl rfl ?_
      obtain ⟨⟨fs18, o18⟩, h⟩ := h
      refine wp_call (n := 21) (K' := KX3_hasSlots) (rc' := rc) (rs' := rs) (aRun_V (K' := KX3_hasSlots) (As := [vI i1]) (rest := []) (b := h0) (c0 := .inr (3, fs18)) dX3_isHeld_18 (aCal_of kf_X3_hasSlots (Nat.le_of_ble_eq_true rfl)) q1131 q1133 qs62 ar_X3_hasSlots o18 (by decide : 3 < 9) rfl (Nat.le_of_ble_eq_true rfl)) rfl (Nat.le_of_eq (Nat.zero_add _)) (Nat.le_of_eq (Nat.zero_add _)) (fun v18 w18 h => ?_) (fun E18 w18 h => ?_) h
      · obtain ⟨x18, rfl, h⟩ := h
        refine wp_if_eq (n := 24) (t := 47) dX3_isHeld_21 rfl (by decide) (fun c21 => ?_) (fun c21 => ?_)
        · replace h := h.1 c21
          refine wp_iconst (n := 48) (v := 0) dX3_isHeld_47 rfl (by decide) ?_
          refine wp_istore_n (n := 49) (i := 3) (ls' := [(3, vI 0), (0, vR (some h0)), (1, vI i1), (2, vI i2), (4, vI i4)]) dX3_isHeld_48 rfl rfl (Nat.le_of_ble_eq_true rfl) rfl ?_
          refine wp_iinc (n := 52) (i := 4) (q := 4) (v := i4 + 1) (ls' := [(4, vI (i4 + 1)), (3, vI 0), (0, vR (some h0)), (1, vI i1), (2, vI i2)]) dX3_isHeld_49 rfl rfl rfl (Nat.le_of_ble_eq_true rfl) rfl ?_
          refine wp_goto (t := 5) dX3_isHeld_52 (by decide) ?_
          exact wp_sub [2, 3, 4, 1, 0] rfl h
        · replace h := h.2 c21
          refine wp_aload_n (n := 25) (i := 0) (q := 0) dX3_isHeld_24 rfl rfl rfl ?_
          obtain ⟨x25, g25, h⟩ := h
          refine wp_gf (n := 28) dX3_isHeld_25 rfl fl_X3_7 g25 ?_
          refine wp_bipush (n := 30) (v := 122) dX3_isHeld_28 rfl (by decide) ?_
          refine wp_bipush (n := 32) (v := 12) dX3_isHeld_30 rfl (by decide) ?_
          refine wp_iload_n (n := 33) (i := 1) (q := 1) dX3_isHeld_32 rfl rfl rfl ?_
          refine wp_imul (n := 34) dX3_isHeld_33 rfl ?_
          refine wp_iadd (n := 35) dX3_isHeld_34 rfl ?_
          refine wp_iload (n := 37) (i := 4) (q := 4) dX3_isHeld_35 rfl rfl ?_
          refine wp_iadd (n := 38) dX3_isHeld_37 rfl ?_
          obtain ⟨x38, g38, h⟩ := h
          refine wp_gI (n := 39) dX3_isHeld_38 rfl g38 ?_
          refine wp_iload_n (n := 40) (i := 2) (q := 2) dX3_isHeld_39 rfl rfl rfl ?_
          refine wp_icmp_ne (n := 43) (t := 47) dX3_isHeld_40 rfl (by decide) (fun c40 => ?_) (fun c40 => ?_)
          · replace h := h.1 c40
            refine wp_iconst (n := 48) (v := 0) dX3_isHeld_47 rfl (by decide) ?_
            refine wp_istore_n (n := 49) (i := 3) (ls' := [(3, vI 0), (0, vR (some h0)), (1, vI i1), (2, vI i2), (4, vI i4)]) dX3_isHeld_48 rfl rfl (Nat.le_of_ble_eq_true rfl) rfl ?_
            refine wp_iinc (n := 52) (i := 4) (q := 4) (v := i4 + 1) (ls' := [(4, vI (i4 + 1)), (3, vI 0), (0, vR (some h0)), (1, vI i1), (2, vI i2)]) dX3_isHeld_49 rfl rfl rfl (Nat.le_of_ble_eq_true rfl) rfl ?_
            refine wp_goto (t := 5) dX3_isHeld_52 (by decide) ?_
            exact wp_sub [2, 3, 4, 1, 0] rfl h
          · replace h := h.2 c40
            refine wp_iconst (n := 44) (v := 1) dX3_isHeld_43 rfl (by decide) ?_
            refine wp_goto (t := 48) dX3_isHeld_44 (by decide) ?_
            refine wp_istore_n (n := 49) (i := 3) (ls' := [(3, vI 1), (0, vR (some h0)), (1, vI i1), (2, vI i2), (4, vI i4)]) dX3_isHeld_48 rfl rfl (Nat.le_of_ble_eq_true rfl) rfl ?_
            refine wp_iinc (n := 52) (i := 4) (q := 4) (v := i4 + 1) (ls' := [(4, vI (i4 + 1)), (3, vI 1), (0, vR (some h0)), (1, vI i1), (2, vI i2)]) dX3_isHeld_49 rfl rfl rfl (Nat.le_of_ble_eq_true rfl) rfl ?_
            refine wp_goto (t := 5) dX3_isHeld_52 (by decide) ?_
            exact wp_sub [2, 3, 4, 1, 0] rfl h
      · exact h.elim
set_option maxHeartbeats 1000000 in
theorem sg_X3_aloneIn_0 {h0 : Nat} {i1 : Int32} {rc rs : Nat} {QR : Option aV → aW → Prop} {QX : String → aW → Prop} {w : aW} (h : isO w h0 3 ∧ ct (KX3_counts) 0 0 [vR (some h0)] w (fun v1 w1 => v1 = none ∧ wp (KX3_aloneIn) rc rs QR QX 9 [(0, vR (some h0)), (1, vI i1), (2, vL 0), (4, vI 0)] [] w1) (fun E1 w1 => False)) : wp (KX3_aloneIn) rc rs QR QX 0 [(0, vR (some h0)), (1, vI i1)] [] w := by
  refine wp_aload_n (n := 1) (i := 0) (q := 0) dX3_aloneIn_0 rfl rfl rfl ?_
  obtain ⟨⟨fs1, o1⟩, h⟩ := h
  refine wp_call (n := 4) (K' := KX3_counts) (rc' := rc) (rs' := rs) (aRun_V (K' := KX3_counts) (As := []) (rest := []) (b := h0) (c0 := .inr (3, fs1)) dX3_aloneIn_1 (aCal_of kf_X3_counts (Nat.le_of_ble_eq_true rfl)) q1127 q1129 qs61 ar_X3_counts o1 (by decide : 3 < 9) rfl (Nat.le_of_ble_eq_true rfl)) rfl (Nat.le_of_eq (Nat.zero_add _)) (Nat.le_of_eq (Nat.zero_add _)) (fun v1 w1 h => ?_) (fun E1 w1 h => ?_) h
  · obtain ⟨rfl, h⟩ := h
    refine wp_lconst (n := 5) (v := 0) dX3_aloneIn_4 rfl (by decide) ?_
    refine wp_lstore_n (n := 6) (i := 2) (ls' := [(2, vL 0), (0, vR (some h0)), (1, vI i1)]) dX3_aloneIn_5 rfl rfl (Nat.le_of_ble_eq_true rfl) rfl ?_
    refine wp_iconst (n := 7) (v := 0) dX3_aloneIn_6 rfl (by decide) ?_
    refine wp_istore (n := 9) (i := 4) (ls' := [(4, vI 0), (2, vL 0), (0, vR (some h0)), (1, vI i1)]) dX3_aloneIn_7 rfl (Nat.le_of_ble_eq_true rfl) rfl ?_
    exact wp_sub [2, 3, 1, 0] rfl h
  · exact h.elim
set_option maxHeartbeats 1000000 in
theorem sg_X3_aloneIn_9 {h0 : Nat} {i1 : Int32} {l2 : Int64} {i4 : Int32} {rc rs : Nat} {QR : Option aV → aW → Prop} {QX : String → aW → Prop} {w : aW} (h : (96 ≤ i4 → QR (some (vL l2)) w) ∧ (¬ 96 ≤ i4 → wp (KX3_aloneIn) rc rs QR QX 22 [(0, vR (some h0)), (1, vI i1), (2, vL l2), (4, vI i4), (5, vI 0), (6, vI 0)] [] w)) : wp (KX3_aloneIn) rc rs QR QX 9 [(0, vR (some h0)), (1, vI i1), (2, vL l2), (4, vI i4)] [] w := by
  refine wp_iload (n := 11) (i := 4) (q := 3) dX3_aloneIn_9 rfl rfl ?_
  refine wp_bipush (n := 13) (v := 96) dX3_aloneIn_11 rfl (by decide) ?_
  refine wp_icmp_ge (n := 16) (t := 108) dX3_aloneIn_13 rfl (by decide) (fun c13 => ?_) (fun c13 => ?_)
  · replace h := h.1 c13
    refine wp_lload_n (n := 109) (i := 2) (q := 2) dX3_aloneIn_108 rfl rfl rfl ?_
    exact wp_lreturn dX3_aloneIn_109 rfl h
  · replace h := h.2 c13
    refine wp_iconst (n := 17) (v := 0) dX3_aloneIn_16 rfl (by decide) ?_
    refine wp_istore (n := 19) (i := 5) (ls' := [(5, vI 0), (0, vR (some h0)), (1, vI i1), (2, vL l2), (4, vI i4)]) dX3_aloneIn_17 rfl (Nat.le_of_ble_eq_true rfl) rfl ?_
    refine wp_iconst (n := 20) (v := 0) dX3_aloneIn_19 rfl (by decide) ?_
    refine wp_istore (n := 22) (i := 6) (ls' := [(6, vI 0), (5, vI 0), (0, vR (some h0)), (1, vI i1), (2, vL l2), (4, vI i4)]) dX3_aloneIn_20 rfl (Nat.le_of_ble_eq_true rfl) rfl ?_
    exact wp_sub [2, 3, 4, 5, 1, 0] rfl h
set_option maxHeartbeats 1000000 in
theorem sg_X3_aloneIn_22 {h0 : Nat} {i1 : Int32} {l2 : Int64} {i4 : Int32} {i5 : Int32} {i6 : Int32} {rc rs : Nat} {QR : Option aV → aW → Prop} {QX : String → aW → Prop} {w : aW} (h : (20 ≤ i6 → (i5 ≤ 0 → wp (KX3_aloneIn) rc rs QR QX 9 [(0, vR (some h0)), (1, vI i1), (2, vL (l2 + 0)), (4, vI (i4 + 1))] [] w) ∧ (¬ i5 ≤ 0 → ∃ x75 : Nat, gf w h0 [3] 5 (vR (some x75)) ∧ ∃ x80 : Int32, gI w x75 i4 x80 ∧ (¬ i5 = x80 → wp (KX3_aloneIn) rc rs QR QX 9 [(0, vR (some h0)), (1, vI i1), (2, vL (l2 + 0)), (4, vI (i4 + 1))] [] w) ∧ (i5 = x80 → ∃ x85 : Nat, gf w h0 [3] 1 (vR (some x85)) ∧ ∃ x94 : Int32, gI w x85 (362 + i4) x94 ∧ wp (KX3_aloneIn) rc rs QR QX 9 [(0, vR (some h0)), (1, vI i1), (2, vL (l2 + (Int32.toInt64 x94))), (4, vI (i4 + 1))] [] w))) ∧ (¬ 20 ≤ i6 → (¬ ((i1 >>> (i6 &&& 31)) &&& 1) = 1 → wp (KX3_aloneIn) rc rs QR QX 22 [(0, vR (some h0)), (1, vI i1), (2, vL l2), (4, vI i4), (5, vI (i5 + 0)), (6, vI (i6 + 1))] [] w) ∧ (((i1 >>> (i6 &&& 31)) &&& 1) = 1 → isO w h0 3 ∧ ct (KX3_isHeld) 0 0 [vR (some h0), vI i6, vI i4] w (fun v46 w46 => ∃ x46 : Int32, v46 = some (vI x46) ∧ (x46 = 0 → wp (KX3_aloneIn) rc rs QR QX 22 [(0, vR (some h0)), (1, vI i1), (2, vL l2), (4, vI i4), (5, vI (i5 + 0)), (6, vI (i6 + 1))] [] w46) ∧ (¬ x46 = 0 → wp (KX3_aloneIn) rc rs QR QX 22 [(0, vR (some h0)), (1, vI i1), (2, vL l2), (4, vI i4), (5, vI (i5 + 1)), (6, vI (i6 + 1))] [] w46)) (fun E46 w46 => False)))) : wp (KX3_aloneIn) rc rs QR QX 22 [(0, vR (some h0)), (1, vI i1), (2, vL l2), (4, vI i4), (5, vI i5), (6, vI i6)] [] w := by
  refine wp_iload (n := 24) (i := 6) (q := 5) dX3_aloneIn_22 rfl rfl ?_
  refine wp_bipush (n := 26) (v := 20) dX3_aloneIn_24 rfl (by decide) ?_
  refine wp_icmp_ge (n := 29) (t := 66) dX3_aloneIn_26 rfl (by decide) (fun c26 => ?_) (fun c26 => ?_)
  · replace h := h.1 c26
    refine wp_lload_n (n := 67) (i := 2) (q := 2) dX3_aloneIn_66 rfl rfl rfl ?_
    refine wp_iload (n := 69) (i := 5) (q := 4) dX3_aloneIn_67 rfl rfl ?_
    refine wp_if_le (n := 72) (t := 99) dX3_aloneIn_69 rfl (by decide) (fun c69 => ?_) (fun c69 => ?_)
    · replace h := h.1 c69
      refine wp_lconst (n := 100) (v := 0) dX3_aloneIn_99 rfl (by decide) ?_
      refine wp_ladd (n := 101) dX3_aloneIn_100 rfl ?_
      refine wp_lstore_n (n := 102) (i := 2) (ls' := [(2, vL (l2 + 0)), (0, vR (some h0)), (1, vI i1), (4, vI i4), (5, vI i5), (6, vI i6)]) dX3_aloneIn_101 rfl rfl (Nat.le_of_ble_eq_true rfl) rfl ?_
      refine wp_iinc (n := 105) (i := 4) (q := 3) (v := i4 + 1) (ls' := [(4, vI (i4 + 1)), (2, vL (l2 + 0)), (0, vR (some h0)), (1, vI i1), (5, vI i5), (6, vI i6)]) dX3_aloneIn_102 rfl rfl rfl (Nat.le_of_ble_eq_true rfl) rfl ?_
      refine wp_goto (t := 9) dX3_aloneIn_105 (by decide) ?_
      exact wp_sub [2, 3, 1, 0] rfl h
    · replace h := h.2 c69
      refine wp_iload (n := 74) (i := 5) (q := 4) dX3_aloneIn_72 rfl rfl ?_
      refine wp_aload_n (n := 75) (i := 0) (q := 0) dX3_aloneIn_74 rfl rfl rfl ?_
      obtain ⟨x75, g75, h⟩ := h
      refine wp_gf (n := 78) dX3_aloneIn_75 rfl fl_X3_19 g75 ?_
      refine wp_iload (n := 80) (i := 4) (q := 3) dX3_aloneIn_78 rfl rfl ?_
      obtain ⟨x80, g80, h⟩ := h
      refine wp_gI (n := 81) dX3_aloneIn_80 rfl g80 ?_
      refine wp_icmp_ne (n := 84) (t := 99) dX3_aloneIn_81 rfl (by decide) (fun c81 => ?_) (fun c81 => ?_)
      · replace h := h.1 c81
        refine wp_lconst (n := 100) (v := 0) dX3_aloneIn_99 rfl (by decide) ?_
        refine wp_ladd (n := 101) dX3_aloneIn_100 rfl ?_
        refine wp_lstore_n (n := 102) (i := 2) (ls' := [(2, vL (l2 + 0)), (0, vR (some h0)), (1, vI i1), (4, vI i4), (5, vI i5), (6, vI i6)]) dX3_aloneIn_101 rfl rfl (Nat.le_of_ble_eq_true rfl) rfl ?_
        refine wp_iinc (n := 105) (i := 4) (q := 3) (v := i4 + 1) (ls' := [(4, vI (i4 + 1)), (2, vL (l2 + 0)), (0, vR (some h0)), (1, vI i1), (5, vI i5), (6, vI i6)]) dX3_aloneIn_102 rfl rfl rfl (Nat.le_of_ble_eq_true rfl) rfl ?_
        refine wp_goto (t := 9) dX3_aloneIn_105 (by decide) ?_
        exact wp_sub [2, 3, 1, 0] rfl h
      · replace h := h.2 c81
        refine wp_aload_n (n := 85) (i := 0) (q := 0) dX3_aloneIn_84 rfl rfl rfl ?_
        obtain ⟨x85, g85, h⟩ := h
        refine wp_gf (n := 88) dX3_aloneIn_85 rfl fl_X3_7 g85 ?_
        refine wp_sipush (n := 91) (v := 362) dX3_aloneIn_88 rfl (by decide) ?_
        refine wp_iload (n := 93) (i := 4) (q := 3) dX3_aloneIn_91 rfl rfl ?_
        refine wp_iadd (n := 94) dX3_aloneIn_93 rfl ?_
        obtain ⟨x94, g94, h⟩ := h
        refine wp_gI (n := 95) dX3_aloneIn_94 rfl g94 ?_
        refine wp_i2l (n := 96) dX3_aloneIn_95 rfl ?_
        refine wp_goto (t := 100) dX3_aloneIn_96 (by decide) ?_
        refine wp_ladd (n := 101) dX3_aloneIn_100 rfl ?_
        refine wp_lstore_n (n := 102) (i := 2) (ls' := [(2, vL (l2 + (Int32.toInt64 x94))), (0, vR (some h0)), (1, vI i1), (4, vI i4), (5, vI i5), (6, vI i6)]) dX3_aloneIn_101 rfl rfl (Nat.le_of_ble_eq_true rfl) rfl ?_
        refine wp_iinc (n := 105) (i := 4) (q := 3) (v := i4 + 1) (ls' := [(4, vI (i4 + 1)), (2, vL (l2 + (Int32.toInt64 x94))), (0, vR (some h0)), (1, vI i1), (5, vI i5), (6, vI i6)]) dX3_aloneIn_102 rfl rfl rfl (Nat.le_of_ble_eq_true rfl) rfl ?_
        refine wp_goto (t := 9) dX3_aloneIn_105 (by decide) ?_
        exact wp_sub [2, 3, 1, 0] rfl h
  · replace h := h.2 c26
    refine wp_iload (n := 31) (i := 5) (q := 4) dX3_aloneIn_29 rfl rfl ?_
    refine wp_iload_n (n := 32) (i := 1) (q := 1) dX3_aloneIn_31 rfl rfl rfl ?_
    refine wp_iload (n := 34) (i := 6) (q := 5) dX3_aloneIn_32 rfl rfl ?_
    refine wp_ishr (n := 35) dX3_aloneIn_34 rfl ?_
    refine wp_iconst (n := 36) (v := 1) dX3_aloneIn_35 rfl (by decide) ?_
    refine wp_iand (n := 37) dX3_aloneIn_36 rfl ?_
    refine wp_iconst (n := 38) (v := 1) dX3_aloneIn_37 rfl (by decide) ?_
    refine wp_icmp_ne (n := 41) (t := 56) dX3_aloneIn_38 rfl (by decide) (fun c38 => ?_) (fun c38 => ?_)
    · replace h := h.1 c38
      refine wp_iconst (n := 57) (v := 0) dX3_aloneIn_56 rfl (by decide) ?_
      refine wp_iadd (n := 58) dX3_aloneIn_57 rfl ?_
      refine wp_istore (n := 60) (i := 5) (ls' := [(5, vI (i5 + 0)), (0, vR (some h0)), (1, vI i1), (2, vL l2), (4, vI i4), (6, vI i6)]) dX3_aloneIn_58 rfl (Nat.le_of_ble_eq_true rfl) rfl ?_
      refine wp_iinc (n := 63) (i := 6) (q := 5) (v := i6 + 1) (ls' := [(6, vI (i6 + 1)), (5, vI (i5 + 0)), (0, vR (some h0)), (1, vI i1), (2, vL l2), (4, vI i4)]) dX3_aloneIn_60 rfl rfl rfl (Nat.le_of_ble_eq_true rfl) rfl ?_
      refine wp_goto (t := 22) dX3_aloneIn_63 (by decide) ?_
      exact wp_sub [2, 3, 4, 5, 1, 0] rfl h
    · replace h := h.2 c38
      refine wp_aload_n (n := 42) (i := 0) (q := 0) dX3_aloneIn_41 rfl rfl rfl ?_
      refine wp_iload (n := 44) (i := 6) (q := 5) dX3_aloneIn_42 rfl rfl ?_
      refine wp_iload (n := 46) (i := 4) (q := 3) dX3_aloneIn_44 rfl rfl ?_
      obtain ⟨⟨fs46, o46⟩, h⟩ := h
      refine wp_call (n := 49) (K' := KX3_isHeld) (rc' := rc) (rs' := rs) (aRun_V (K' := KX3_isHeld) (As := [vI i6, vI i4]) (rest := [vI i5]) (b := h0) (c0 := .inr (3, fs46)) dX3_aloneIn_46 (aCal_of kf_X3_isHeld (Nat.le_of_ble_eq_true rfl)) q1236 q1238 qs74 ar_X3_isHeld o46 (by decide : 3 < 9) rfl (Nat.le_of_ble_eq_true rfl)) rfl (Nat.le_of_eq (Nat.zero_add _)) (Nat.le_of_eq (Nat.zero_add _)) (fun v46 w46 h => ?_) (fun E46 w46 h => ?_) h
      · obtain ⟨x46, rfl, h⟩ := h
        refine wp_if_eq (n := 52) (t := 56) dX3_aloneIn_49 rfl (by decide) (fun c49 => ?_) (fun c49 => ?_)
        · replace h := h.1 c49
          refine wp_iconst (n := 57) (v := 0) dX3_aloneIn_56 rfl (by decide) ?_
          refine wp_iadd (n := 58) dX3_aloneIn_57 rfl ?_
          refine wp_istore (n := 60) (i := 5) (ls' := [(5, vI (i5 + 0)), (0, vR (some h0)), (1, vI i1), (2, vL l2), (4, vI i4), (6, vI i6)]) dX3_aloneIn_58 rfl (Nat.le_of_ble_eq_true rfl) rfl ?_
          refine wp_iinc (n := 63) (i := 6) (q := 5) (v := i6 + 1) (ls' := [(6, vI (i6 + 1)), (5, vI (i5 + 0)), (0, vR (some h0)), (1, vI i1), (2, vL l2), (4, vI i4)]) dX3_aloneIn_60 rfl rfl rfl (Nat.le_of_ble_eq_true rfl) rfl ?_
          refine wp_goto (t := 22) dX3_aloneIn_63 (by decide) ?_
          exact wp_sub [2, 3, 4, 5, 1, 0] rfl h
        · replace h := h.2 c49
          refine wp_iconst (n := 53) (v := 1) dX3_aloneIn_52 rfl (by decide) ?_
          refine wp_goto (t := 57) dX3_aloneIn_53 (by decide) ?_
          refine wp_iadd (n := 58) dX3_aloneIn_57 rfl ?_
          refine wp_istore (n := 60) (i := 5) (ls' := [(5, vI (i5 + 1)), (0, vR (some h0)), (1, vI i1), (2, vL l2), (4, vI i4), (6, vI i6)]) dX3_aloneIn_58 rfl (Nat.le_of_ble_eq_true rfl) rfl ?_
          refine wp_iinc (n := 63) (i := 6) (q := 5) (v := i6 + 1) (ls' := [(6, vI (i6 + 1)), (5, vI (i5 + 1)), (0, vR (some h0)), (1, vI i1), (2, vL l2), (4, vI i4)]) dX3_aloneIn_60 rfl rfl rfl (Nat.le_of_ble_eq_true rfl) rfl ?_
          refine wp_goto (t := 22) dX3_aloneIn_63 (by decide) ?_
          exact wp_sub [2, 3, 4, 5, 1, 0] rfl h
      · exact h.elim
set_option maxHeartbeats 1000000 in
theorem sg_X3_alone_0 {h0 : Nat} {i1 : Int32} {rc rs : Nat} {QR : Option aV → aW → Prop} {QX : String → aW → Prop} {w : aW} (h : isO w h0 3 ∧ ct (KX3_hasSlots) 0 0 [vR (some h0), vI i1] w (fun v2 w2 => ∃ x2 : Int32, v2 = some (vI x2) ∧ (x2 = 0 → QR (some (vL (-4611686018427387904))) w2) ∧ (¬ x2 = 0 → isO w2 h0 3 ∧ ct (KX3_aloneIn) 0 0 [vR (some h0), vI (1 <<< (i1 &&& 31))] w2 (fun v12 w12 => ∃ x12 : Int64, v12 = some (vL x12) ∧ QR (some (vL x12)) w12) (fun E12 w12 => False))) (fun E2 w2 => False)) : wp (KX3_alone) rc rs QR QX 0 [(0, vR (some h0)), (1, vI i1)] [] w := by
  refine wp_aload_n (n := 1) (i := 0) (q := 0) dX3_alone_0 rfl rfl rfl ?_
  refine wp_iload_n (n := 2) (i := 1) (q := 1) dX3_alone_1 rfl rfl rfl ?_
  obtain ⟨⟨fs2, o2⟩, h⟩ := h
  refine wp_call (n := 5) (K' := KX3_hasSlots) (rc' := rc) (rs' := rs) (aRun_V (K' := KX3_hasSlots) (As := [vI i1]) (rest := []) (b := h0) (c0 := .inr (3, fs2)) dX3_alone_2 (aCal_of kf_X3_hasSlots (Nat.le_of_ble_eq_true rfl)) q1131 q1133 qs62 ar_X3_hasSlots o2 (by decide : 3 < 9) rfl (Nat.le_of_ble_eq_true rfl)) rfl (Nat.le_of_eq (Nat.zero_add _)) (Nat.le_of_eq (Nat.zero_add _)) (fun v2 w2 h => ?_) (fun E2 w2 h => ?_) h
  · obtain ⟨x2, rfl, h⟩ := h
    refine wp_if_eq (n := 8) (t := 18) dX3_alone_5 rfl (by decide) (fun c5 => ?_) (fun c5 => ?_)
    · replace h := h.1 c5
      refine wp_ldc2 (n := 21) dX3_alone_18 rfl q1248 ?_
      exact wp_lreturn dX3_alone_21 rfl h
    · replace h := h.2 c5
      refine wp_aload_n (n := 9) (i := 0) (q := 0) dX3_alone_8 rfl rfl rfl ?_
      refine wp_iconst (n := 10) (v := 1) dX3_alone_9 rfl (by decide) ?_
      refine wp_iload_n (n := 11) (i := 1) (q := 1) dX3_alone_10 rfl rfl rfl ?_
      refine wp_ishl (n := 12) dX3_alone_11 rfl ?_
      obtain ⟨⟨fs12, o12⟩, h⟩ := h
      refine wp_call (n := 15) (K' := KX3_aloneIn) (rc' := rc) (rs' := rs) (aRun_V (K' := KX3_aloneIn) (As := [vI (1 <<< (i1 &&& 31))]) (rest := []) (b := h0) (c0 := .inr (3, fs12)) dX3_alone_12 (aCal_of kf_X3_aloneIn (Nat.le_of_ble_eq_true rfl)) q1257 q1259 qs76 ar_X3_aloneIn o12 (by decide : 3 < 9) rfl (Nat.le_of_ble_eq_true rfl)) rfl (Nat.le_of_eq (Nat.zero_add _)) (Nat.le_of_eq (Nat.zero_add _)) (fun v12 w12 h => ?_) (fun E12 w12 h => ?_) h
      · obtain ⟨x12, rfl, h⟩ := h
        refine wp_goto (t := 21) dX3_alone_15 (by decide) ?_
        exact wp_lreturn dX3_alone_21 rfl h
      · exact h.elim
  · exact h.elim
set_option maxHeartbeats 1000000 in
theorem sg_X3_isSheet_0 {i0 : Int32} {rc rs : Nat} {QR : Option aV → aW → Prop} {QX : String → aW → Prop} {w : aW} (h : ct (KX3_in) 0 0 [vI i0, vI 0, vI 3] w (fun v3 w3 => ∃ x3 : Int32, v3 = some (vI x3) ∧ narrow .boolean (.int x3) = .int x3 ∧ QR (some (vI x3)) w3) (fun E3 w3 => False)) : wp (KX3_isSheet) rc rs QR QX 0 [(0, vI i0)] [] w := by
  refine wp_iload_n (n := 1) (i := 0) (q := 0) dX3_isSheet_0 rfl rfl rfl ?_
  refine wp_iconst (n := 2) (v := 0) dX3_isSheet_1 rfl (by decide) ?_
  refine wp_iconst (n := 3) (v := 3) dX3_isSheet_2 rfl (by decide) ?_
  refine wp_call (n := 6) (K' := KX3_in) (rc' := rc) (rs' := rs) (aRun_S (K' := KX3_in) (As := [vI i0, vI 0, vI 3]) (rest := []) dX3_isSheet_3 (aCal_of kf_X3_in (Nat.le_of_ble_eq_true rfl)) rfl q1077 q1078 ar_X3_in rfl (Nat.le_of_ble_eq_true rfl)) rfl (Nat.le_of_eq (Nat.zero_add _)) (Nat.le_of_eq (Nat.zero_add _)) (fun v3 w3 h => ?_) (fun E3 w3 h => ?_) h
  · obtain ⟨x3, rfl, h⟩ := h
    exact wp_zreturn dX3_isSheet_6 rfl h.1 h.2
  · exact h.elim
set_option maxHeartbeats 1000000 in
theorem sg_X3_there_0 {h0 : Nat} {i1 : Int32} {rc rs : Nat} {QR : Option aV → aW → Prop} {QX : String → aW → Prop} {w : aW} (h : ct (KX3_in) 0 0 [vI i1, vI 0, vI 19] w (fun v4 w4 => ∃ x4 : Int32, v4 = some (vI x4) ∧ (¬ x4 = 0 → isO w4 h0 3 ∧ ct (KX3_isThing) 0 0 [vR (some h0), vI i1] w4 (fun v17 w17 => ∃ x17 : Int32, v17 = some (vI x17) ∧ (x17 = 0 → QR (some (vI (-11))) w17) ∧ (¬ x17 = 0 → QR (some (vI 0)) w17)) (fun E17 w17 => False)) ∧ (x4 = 0 → QR (some (vI (-12))) w4)) (fun E4 w4 => False)) : wp (KX3_there) rc rs QR QX 0 [(0, vR (some h0)), (1, vI i1)] [] w := by
  refine wp_iload_n (n := 1) (i := 1) (q := 1) dX3_there_0 rfl rfl rfl ?_
  refine wp_iconst (n := 2) (v := 0) dX3_there_1 rfl (by decide) ?_
  refine wp_bipush (n := 4) (v := 19) dX3_there_2 rfl (by decide) ?_
  refine wp_call (n := 7) (K' := KX3_in) (rc' := rc) (rs' := rs) (aRun_S (K' := KX3_in) (As := [vI i1, vI 0, vI 19]) (rest := []) dX3_there_4 (aCal_of kf_X3_in (Nat.le_of_ble_eq_true rfl)) rfl q1077 q1078 ar_X3_in rfl (Nat.le_of_ble_eq_true rfl)) rfl (Nat.le_of_eq (Nat.zero_add _)) (Nat.le_of_eq (Nat.zero_add _)) (fun v4 w4 h => ?_) (fun E4 w4 h => ?_) h
  · obtain ⟨x4, rfl, h⟩ := h
    refine wp_if_ne (n := 10) (t := 15) dX3_there_7 rfl (by decide) (fun c7 => ?_) (fun c7 => ?_)
    · replace h := h.1 c7
      refine wp_aload_n (n := 16) (i := 0) (q := 0) dX3_there_15 rfl rfl rfl ?_
      refine wp_iload_n (n := 17) (i := 1) (q := 1) dX3_there_16 rfl rfl rfl ?_
      obtain ⟨⟨fs17, o17⟩, h⟩ := h
      refine wp_call (n := 20) (K' := KX3_isThing) (rc' := rc) (rs' := rs) (aRun_V (K' := KX3_isThing) (As := [vI i1]) (rest := []) (b := h0) (c0 := .inr (3, fs17)) dX3_there_17 (aCal_of kf_X3_isThing (Nat.le_of_ble_eq_true rfl)) q1100 q1102 qs55 ar_X3_isThing o17 (by decide : 3 < 9) rfl (Nat.le_of_ble_eq_true rfl)) rfl (Nat.le_of_eq (Nat.zero_add _)) (Nat.le_of_eq (Nat.zero_add _)) (fun v17 w17 h => ?_) (fun E17 w17 h => ?_) h
      · obtain ⟨x17, rfl, h⟩ := h
        refine wp_if_eq (n := 23) (t := 27) dX3_there_20 rfl (by decide) (fun c20 => ?_) (fun c20 => ?_)
        · replace h := h.1 c20
          refine wp_bipush (n := 29) (v := (-11)) dX3_there_27 rfl (by decide) ?_
          exact wp_ireturn dX3_there_29 rfl h
        · replace h := h.2 c20
          refine wp_iconst (n := 24) (v := 0) dX3_there_23 rfl (by decide) ?_
          refine wp_goto (t := 29) dX3_there_24 (by decide) ?_
          exact wp_ireturn dX3_there_29 rfl h
      · exact h.elim
    · replace h := h.2 c7
      refine wp_bipush (n := 12) (v := (-12)) dX3_there_10 rfl (by decide) ?_
      refine wp_goto (t := 29) dX3_there_12 (by decide) ?_
      exact wp_ireturn dX3_there_29 rfl h
  · exact h.elim
set_option maxHeartbeats 1000000 in
theorem sg_X3_asked_0 {h0 : Nat} {i1 : Int32} {i2 : Int32} {rc rs : Nat} {QR : Option aV → aW → Prop} {QX : String → aW → Prop} {w : aW} (h : isO w h0 3 ∧ ct (KX3_there) 0 0 [vR (some h0), vI i1] w (fun v2 w2 => ∃ x2 : Int32, v2 = some (vI x2) ∧ (x2 = 0 → ∃ x15 : Nat, gf w2 h0 [3] 1 (vR (some x15)) ∧ ∃ x21 : Int32, gI w2 x15 (2 + i1) x21 ∧ ct (KX3_isUnder) 0 0 [vI x21, vI i2] w2 (fun v23 w23 => ∃ x23 : Int32, v23 = some (vI x23) ∧ (x23 = 0 → QR (some (vI (-13))) w23) ∧ (¬ x23 = 0 → QR (some (vI 0)) w23)) (fun E23 w23 => False)) ∧ (¬ x2 = 0 → QR (some (vI x2)) w2)) (fun E2 w2 => False)) : wp (KX3_asked) rc rs QR QX 0 [(0, vR (some h0)), (1, vI i1), (2, vI i2)] [] w := by
  refine wp_aload_n (n := 1) (i := 0) (q := 0) dX3_asked_0 rfl rfl rfl ?_
  refine wp_iload_n (n := 2) (i := 1) (q := 1) dX3_asked_1 rfl rfl rfl ?_
  obtain ⟨⟨fs2, o2⟩, h⟩ := h
  refine wp_call (n := 5) (K' := KX3_there) (rc' := rc) (rs' := rs) (aRun_V (K' := KX3_there) (As := [vI i1]) (rest := []) (b := h0) (c0 := .inr (3, fs2)) dX3_asked_2 (aCal_of kf_X3_there (Nat.le_of_ble_eq_true rfl)) q1096 q1098 qs54 ar_X3_there o2 (by decide : 3 < 9) rfl (Nat.le_of_ble_eq_true rfl)) rfl (Nat.le_of_eq (Nat.zero_add _)) (Nat.le_of_eq (Nat.zero_add _)) (fun v2 w2 h => ?_) (fun E2 w2 h => ?_) h
  · obtain ⟨x2, rfl, h⟩ := h
    refine wp_istore_n (n := 6) (i := 3) (ls' := [(3, vI x2), (0, vR (some h0)), (1, vI i1), (2, vI i2)]) dX3_asked_5 rfl rfl (Nat.le_of_ble_eq_true rfl) rfl ?_
    refine wp_iload_n (n := 7) (i := 3) (q := 0) dX3_asked_6 rfl rfl rfl ?_
    refine wp_if_eq (n := 10) (t := 14) dX3_asked_7 rfl (by decide) (fun c7 => ?_) (fun c7 => ?_)
    · replace h := h.1 c7
      refine wp_aload_n (n := 15) (i := 0) (q := 1) dX3_asked_14 rfl rfl rfl ?_
      obtain ⟨x15, g15, h⟩ := h
      refine wp_gf (n := 18) dX3_asked_15 rfl fl_X3_7 g15 ?_
      refine wp_iconst (n := 19) (v := 2) dX3_asked_18 rfl (by decide) ?_
      refine wp_iload_n (n := 20) (i := 1) (q := 2) dX3_asked_19 rfl rfl rfl ?_
      refine wp_iadd (n := 21) dX3_asked_20 rfl ?_
      obtain ⟨x21, g21, h⟩ := h
      refine wp_gI (n := 22) dX3_asked_21 rfl g21 ?_
      refine wp_iload_n (n := 23) (i := 2) (q := 3) dX3_asked_22 rfl rfl rfl ?_
      refine wp_call (n := 26) (K' := KX3_isUnder) (rc' := rc) (rs' := rs) (aRun_S (K' := KX3_isUnder) (As := [vI x21, vI i2]) (rest := []) dX3_asked_23 (aCal_of kf_X3_isUnder (Nat.le_of_ble_eq_true rfl)) rfl q1104 q1105 ar_X3_isUnder rfl (Nat.le_of_ble_eq_true rfl)) rfl (Nat.le_of_eq (Nat.zero_add _)) (Nat.le_of_eq (Nat.zero_add _)) (fun v23 w23 h => ?_) (fun E23 w23 h => ?_) h
      · obtain ⟨x23, rfl, h⟩ := h
        refine wp_if_eq (n := 29) (t := 33) dX3_asked_26 rfl (by decide) (fun c26 => ?_) (fun c26 => ?_)
        · replace h := h.1 c26
          refine wp_bipush (n := 35) (v := (-13)) dX3_asked_33 rfl (by decide) ?_
          exact wp_ireturn dX3_asked_35 rfl h
        · replace h := h.2 c26
          refine wp_iconst (n := 30) (v := 0) dX3_asked_29 rfl (by decide) ?_
          refine wp_goto (t := 35) dX3_asked_30 (by decide) ?_
          exact wp_ireturn dX3_asked_35 rfl h
      · exact h.elim
    · replace h := h.2 c7
      refine wp_iload_n (n := 11) (i := 3) (q := 0) dX3_asked_10 rfl rfl rfl ?_
      refine wp_goto (t := 35) dX3_asked_11 (by decide) ?_
      exact wp_ireturn dX3_asked_35 rfl h
  · exact h.elim
set_option maxHeartbeats 1000000 in
theorem sg_X3_frees_0 {h0 : Nat} {rc rs : Nat} {QR : Option aV → aW → Prop} {QX : String → aW → Prop} {w : aW} (h : isO w h0 3 ∧ ct (KX3_counts) 0 0 [vR (some h0)] w (fun v1 w1 => v1 = none ∧ wp (KX3_frees) rc rs QR QX 8 [(0, vR (some h0)), (1, vI 0), (2, vI 0)] [] w1) (fun E1 w1 => False)) : wp (KX3_frees) rc rs QR QX 0 [(0, vR (some h0))] [] w := by
  refine wp_aload_n (n := 1) (i := 0) (q := 0) dX3_frees_0 rfl rfl rfl ?_
  obtain ⟨⟨fs1, o1⟩, h⟩ := h
  refine wp_call (n := 4) (K' := KX3_counts) (rc' := rc) (rs' := rs) (aRun_V (K' := KX3_counts) (As := []) (rest := []) (b := h0) (c0 := .inr (3, fs1)) dX3_frees_1 (aCal_of kf_X3_counts (Nat.le_of_ble_eq_true rfl)) q1127 q1129 qs61 ar_X3_counts o1 (by decide : 3 < 9) rfl (Nat.le_of_ble_eq_true rfl)) rfl (Nat.le_of_eq (Nat.zero_add _)) (Nat.le_of_eq (Nat.zero_add _)) (fun v1 w1 h => ?_) (fun E1 w1 h => ?_) h
  · obtain ⟨rfl, h⟩ := h
    refine wp_iconst (n := 5) (v := 0) dX3_frees_4 rfl (by decide) ?_
    refine wp_istore_n (n := 6) (i := 1) (ls' := [(1, vI 0), (0, vR (some h0))]) dX3_frees_5 rfl rfl (Nat.le_of_ble_eq_true rfl) rfl ?_
    refine wp_iconst (n := 7) (v := 0) dX3_frees_6 rfl (by decide) ?_
    refine wp_istore_n (n := 8) (i := 2) (ls' := [(2, vI 0), (1, vI 0), (0, vR (some h0))]) dX3_frees_7 rfl rfl (Nat.le_of_ble_eq_true rfl) rfl ?_
    exact wp_sub [2, 1, 0] rfl h
  · exact h.elim
set_option maxHeartbeats 1000000 in
theorem sg_X3_frees_8 {h0 : Nat} {i1 : Int32} {i2 : Int32} {rc rs : Nat} {QR : Option aV → aW → Prop} {QX : String → aW → Prop} {w : aW} (h : (96 ≤ i2 → ∃ x57 : Nat, gf w h0 [3] 1 (vR (some x57)) ∧ ∃ x62 : Int32, gI w x57 1 x62 ∧ pI w x57 1 (x62 + i1) (fun w65 => QR (some (vI i1)) w65)) ∧ (¬ 96 ≤ i2 → ∃ x15 : Nat, gf w h0 [3] 1 (vR (some x15)) ∧ ∃ x23 : Int32, gI w x15 (362 + i2) x23 ∧ (x23 ≤ 0 → wp (KX3_frees) rc rs QR QX 8 [(0, vR (some h0)), (1, vI i1), (2, vI (i2 + 1))] [] w) ∧ (¬ x23 ≤ 0 → ∃ x28 : Nat, gf w h0 [3] 5 (vR (some x28)) ∧ ∃ x32 : Int32, gI w x28 i2 x32 ∧ (¬ x32 = 0 → wp (KX3_frees) rc rs QR QX 8 [(0, vR (some h0)), (1, vI i1), (2, vI (i2 + 1))] [] w) ∧ (x32 = 0 → ∃ x37 : Nat, gf w h0 [3] 1 (vR (some x37)) ∧ pI w x37 (362 + i2) 0 (fun w46 => wp (KX3_frees) rc rs QR QX 8 [(0, vR (some h0)), (1, vI (i1 + 1)), (2, vI (i2 + 1))] [] w46))))) : wp (KX3_frees) rc rs QR QX 8 [(0, vR (some h0)), (1, vI i1), (2, vI i2)] [] w := by
  refine wp_iload_n (n := 9) (i := 2) (q := 2) dX3_frees_8 rfl rfl rfl ?_
  refine wp_bipush (n := 11) (v := 96) dX3_frees_9 rfl (by decide) ?_
  refine wp_icmp_ge (n := 14) (t := 56) dX3_frees_11 rfl (by decide) (fun c11 => ?_) (fun c11 => ?_)
  · replace h := h.1 c11
    refine wp_aload_n (n := 57) (i := 0) (q := 0) dX3_frees_56 rfl rfl rfl ?_
    obtain ⟨x57, g57, h⟩ := h
    refine wp_gf (n := 60) dX3_frees_57 rfl fl_X3_7 g57 ?_
    refine wp_iconst (n := 61) (v := 1) dX3_frees_60 rfl (by decide) ?_
    refine wp_dup2_11 (n := 62) dX3_frees_61 rfl rfl rfl ?_
    obtain ⟨x62, g62, h⟩ := h
    refine wp_gI (n := 63) dX3_frees_62 rfl g62 ?_
    refine wp_iload_n (n := 64) (i := 1) (q := 1) dX3_frees_63 rfl rfl rfl ?_
    refine wp_iadd (n := 65) dX3_frees_64 rfl ?_
    refine wp_pI (n := 66) dX3_frees_65 rfl (pI_mono h (fun w65 h => ?_))
    refine wp_iload_n (n := 67) (i := 1) (q := 1) dX3_frees_66 rfl rfl rfl ?_
    exact wp_ireturn dX3_frees_67 rfl h
  · replace h := h.2 c11
    refine wp_aload_n (n := 15) (i := 0) (q := 0) dX3_frees_14 rfl rfl rfl ?_
    obtain ⟨x15, g15, h⟩ := h
    refine wp_gf (n := 18) dX3_frees_15 rfl fl_X3_7 g15 ?_
    refine wp_sipush (n := 21) (v := 362) dX3_frees_18 rfl (by decide) ?_
    refine wp_iload_n (n := 22) (i := 2) (q := 2) dX3_frees_21 rfl rfl rfl ?_
    refine wp_iadd (n := 23) dX3_frees_22 rfl ?_
    obtain ⟨x23, g23, h⟩ := h
    refine wp_gI (n := 24) dX3_frees_23 rfl g23 ?_
    refine wp_if_le (n := 27) (t := 50) dX3_frees_24 rfl (by decide) (fun c24 => ?_) (fun c24 => ?_)
    · replace h := h.1 c24
      refine wp_iinc (n := 53) (i := 2) (q := 2) (v := i2 + 1) (ls' := [(2, vI (i2 + 1)), (0, vR (some h0)), (1, vI i1)]) dX3_frees_50 rfl rfl rfl (Nat.le_of_ble_eq_true rfl) rfl ?_
      refine wp_goto (t := 8) dX3_frees_53 (by decide) ?_
      exact wp_sub [1, 2, 0] rfl h
    · replace h := h.2 c24
      refine wp_aload_n (n := 28) (i := 0) (q := 0) dX3_frees_27 rfl rfl rfl ?_
      obtain ⟨x28, g28, h⟩ := h
      refine wp_gf (n := 31) dX3_frees_28 rfl fl_X3_19 g28 ?_
      refine wp_iload_n (n := 32) (i := 2) (q := 2) dX3_frees_31 rfl rfl rfl ?_
      obtain ⟨x32, g32, h⟩ := h
      refine wp_gI (n := 33) dX3_frees_32 rfl g32 ?_
      refine wp_if_ne (n := 36) (t := 50) dX3_frees_33 rfl (by decide) (fun c33 => ?_) (fun c33 => ?_)
      · replace h := h.1 c33
        refine wp_iinc (n := 53) (i := 2) (q := 2) (v := i2 + 1) (ls' := [(2, vI (i2 + 1)), (0, vR (some h0)), (1, vI i1)]) dX3_frees_50 rfl rfl rfl (Nat.le_of_ble_eq_true rfl) rfl ?_
        refine wp_goto (t := 8) dX3_frees_53 (by decide) ?_
        exact wp_sub [1, 2, 0] rfl h
      · replace h := h.2 c33
        refine wp_aload_n (n := 37) (i := 0) (q := 0) dX3_frees_36 rfl rfl rfl ?_
        obtain ⟨x37, g37, h⟩ := h
        refine wp_gf (n := 40) dX3_frees_37 rfl fl_X3_7 g37 ?_
        refine wp_sipush (n := 43) (v := 362) dX3_frees_40 rfl (by decide) ?_
        refine wp_iload_n (n := 44) (i := 2) (q := 2) dX3_frees_43 rfl rfl rfl ?_
        refine wp_iadd (n := 45) dX3_frees_44 rfl ?_
        refine wp_iconst (n := 46) (v := 0) dX3_frees_45 rfl (by decide) ?_
        refine wp_pI (n := 47) dX3_frees_46 rfl (pI_mono h (fun w46 h => ?_))
        refine wp_iinc (n := 50) (i := 1) (q := 1) (v := i1 + 1) (ls' := [(1, vI (i1 + 1)), (0, vR (some h0)), (2, vI i2)]) dX3_frees_47 rfl rfl rfl (Nat.le_of_ble_eq_true rfl) rfl ?_
        refine wp_iinc (n := 53) (i := 2) (q := 2) (v := i2 + 1) (ls' := [(2, vI (i2 + 1)), (1, vI (i1 + 1)), (0, vR (some h0))]) dX3_frees_50 rfl rfl rfl (Nat.le_of_ble_eq_true rfl) rfl ?_
        refine wp_goto (t := 8) dX3_frees_53 (by decide) ?_
        exact wp_sub [2, 1, 0] rfl h
set_option maxHeartbeats 1000000 in
theorem sg_X3_erased_0 {h0 : Nat} {i1 : Int32} {i2 : Int32} {rc rs : Nat} {QR : Option aV → aW → Prop} {QX : String → aW → Prop} {w : aW} (h : ∃ x1 : Nat, gf w h0 [3] 1 (vR (some x1)) ∧ ∃ x13 : Int32, gI w x1 ((122 + (12 * i1)) + i2) x13 ∧ ∃ x16 : Nat, gf w h0 [3] 1 (vR (some x16)) ∧ pI w x16 ((122 + (12 * i1)) + i2) (-1) (fun w29 => isO w29 h0 3 ∧ ct (KX3_frees) 0 0 [vR (some h0)] w29 (fun v31 w31 => ∃ x31 : Int32, v31 = some (vI x31) ∧ QR (some (vI x13)) w31) (fun E31 w31 => False))) : wp (KX3_erased) rc rs QR QX 0 [(0, vR (some h0)), (1, vI i1), (2, vI i2)] [] w := by
  refine wp_aload_n (n := 1) (i := 0) (q := 0) dX3_erased_0 rfl rfl rfl ?_
  obtain ⟨x1, g1, h⟩ := h
  refine wp_gf (n := 4) dX3_erased_1 rfl fl_X3_7 g1 ?_
  refine wp_bipush (n := 6) (v := 122) dX3_erased_4 rfl (by decide) ?_
  refine wp_bipush (n := 8) (v := 12) dX3_erased_6 rfl (by decide) ?_
  refine wp_iload_n (n := 9) (i := 1) (q := 1) dX3_erased_8 rfl rfl rfl ?_
  refine wp_imul (n := 10) dX3_erased_9 rfl ?_
  refine wp_iadd (n := 11) dX3_erased_10 rfl ?_
  refine wp_iload_n (n := 12) (i := 2) (q := 2) dX3_erased_11 rfl rfl rfl ?_
  refine wp_iadd (n := 13) dX3_erased_12 rfl ?_
  obtain ⟨x13, g13, h⟩ := h
  refine wp_gI (n := 14) dX3_erased_13 rfl g13 ?_
  refine wp_istore_n (n := 15) (i := 3) (ls' := [(3, vI x13), (0, vR (some h0)), (1, vI i1), (2, vI i2)]) dX3_erased_14 rfl rfl (Nat.le_of_ble_eq_true rfl) rfl ?_
  refine wp_aload_n (n := 16) (i := 0) (q := 1) dX3_erased_15 rfl rfl rfl ?_
  obtain ⟨x16, g16, h⟩ := h
  refine wp_gf (n := 19) dX3_erased_16 rfl fl_X3_7 g16 ?_
  refine wp_bipush (n := 21) (v := 122) dX3_erased_19 rfl (by decide) ?_
  refine wp_bipush (n := 23) (v := 12) dX3_erased_21 rfl (by decide) ?_
  refine wp_iload_n (n := 24) (i := 1) (q := 2) dX3_erased_23 rfl rfl rfl ?_
  refine wp_imul (n := 25) dX3_erased_24 rfl ?_
  refine wp_iadd (n := 26) dX3_erased_25 rfl ?_
  refine wp_iload_n (n := 27) (i := 2) (q := 3) dX3_erased_26 rfl rfl rfl ?_
  refine wp_iadd (n := 28) dX3_erased_27 rfl ?_
  refine wp_iconst (n := 29) (v := (-1)) dX3_erased_28 rfl (by decide) ?_
  refine wp_pI (n := 30) dX3_erased_29 rfl (pI_mono h (fun w29 h => ?_))
  refine wp_aload_n (n := 31) (i := 0) (q := 1) dX3_erased_30 rfl rfl rfl ?_
  obtain ⟨⟨fs31, o31⟩, h⟩ := h
  refine wp_call (n := 34) (K' := KX3_frees) (rc' := rc) (rs' := rs) (aRun_V (K' := KX3_frees) (As := []) (rest := []) (b := h0) (c0 := .inr (3, fs31)) dX3_erased_31 (aCal_of kf_X3_frees (Nat.le_of_ble_eq_true rfl)) q1123 q1125 qs60 ar_X3_frees o31 (by decide : 3 < 9) rfl (Nat.le_of_ble_eq_true rfl)) rfl (Nat.le_of_eq (Nat.zero_add _)) (Nat.le_of_eq (Nat.zero_add _)) (fun v31 w31 h => ?_) (fun E31 w31 h => ?_) h
  · obtain ⟨x31, rfl, h⟩ := h
    refine wp_pop (n := 35) dX3_erased_34 rfl rfl ?_
    refine wp_iload_n (n := 36) (i := 3) (q := 0) dX3_erased_35 rfl rfl rfl ?_
    exact wp_ireturn dX3_erased_36 rfl h
  · exact h.elim
set_option maxHeartbeats 1000000 in
theorem sg_X3_newBlock_0 {h0 : Nat} {rc rs : Nat} {QR : Option aV → aW → Prop} {QX : String → aW → Prop} {w : aW} (h : wp (KX3_newBlock) rc rs QR QX 2 [(0, vR (some h0)), (1, vI 0)] [] w) : wp (KX3_newBlock) rc rs QR QX 0 [(0, vR (some h0))] [] w := by
  refine wp_iconst (n := 1) (v := 0) dX3_newBlock_0 rfl (by decide) ?_
  refine wp_istore_n (n := 2) (i := 1) (ls' := [(1, vI 0), (0, vR (some h0))]) dX3_newBlock_1 rfl rfl (Nat.le_of_ble_eq_true rfl) rfl ?_
  exact wp_sub [1, 0] rfl h
set_option maxHeartbeats 1000000 in
theorem sg_X3_newBlock_2 {h0 : Nat} {i1 : Int32} {rc rs : Nat} {QR : Option aV → aW → Prop} {QX : String → aW → Prop} {w : aW} (h : (96 ≤ i1 → QR (some (vI i1)) w) ∧ (¬ 96 ≤ i1 → ∃ x9 : Nat, gf w h0 [3] 1 (vR (some x9)) ∧ ∃ x17 : Int32, gI w x9 (362 + i1) x17 ∧ (x17 ≤ 0 → QR (some (vI i1)) w) ∧ (¬ x17 ≤ 0 → wp (KX3_newBlock) rc rs QR QX 2 [(0, vR (some h0)), (1, vI (i1 + 1))] [] w))) : wp (KX3_newBlock) rc rs QR QX 2 [(0, vR (some h0)), (1, vI i1)] [] w := by
  refine wp_iload_n (n := 3) (i := 1) (q := 1) dX3_newBlock_2 rfl rfl rfl ?_
  refine wp_bipush (n := 5) (v := 96) dX3_newBlock_3 rfl (by decide) ?_
  refine wp_icmp_ge (n := 8) (t := 27) dX3_newBlock_5 rfl (by decide) (fun c5 => ?_) (fun c5 => ?_)
  · replace h := h.1 c5
    refine wp_iload_n (n := 28) (i := 1) (q := 1) dX3_newBlock_27 rfl rfl rfl ?_
    exact wp_ireturn dX3_newBlock_28 rfl h
  · replace h := h.2 c5
    refine wp_aload_n (n := 9) (i := 0) (q := 0) dX3_newBlock_8 rfl rfl rfl ?_
    obtain ⟨x9, g9, h⟩ := h
    refine wp_gf (n := 12) dX3_newBlock_9 rfl fl_X3_7 g9 ?_
    refine wp_sipush (n := 15) (v := 362) dX3_newBlock_12 rfl (by decide) ?_
    refine wp_iload_n (n := 16) (i := 1) (q := 1) dX3_newBlock_15 rfl rfl rfl ?_
    refine wp_iadd (n := 17) dX3_newBlock_16 rfl ?_
    obtain ⟨x17, g17, h⟩ := h
    refine wp_gI (n := 18) dX3_newBlock_17 rfl g17 ?_
    refine wp_if_le (n := 21) (t := 27) dX3_newBlock_18 rfl (by decide) (fun c18 => ?_) (fun c18 => ?_)
    · replace h := h.1 c18
      refine wp_iload_n (n := 28) (i := 1) (q := 1) dX3_newBlock_27 rfl rfl rfl ?_
      exact wp_ireturn dX3_newBlock_28 rfl h
    · replace h := h.2 c18
      refine wp_iinc (n := 24) (i := 1) (q := 1) (v := i1 + 1) (ls' := [(1, vI (i1 + 1)), (0, vR (some h0))]) dX3_newBlock_21 rfl rfl rfl (Nat.le_of_ble_eq_true rfl) rfl ?_
      refine wp_goto (t := 2) dX3_newBlock_24 (by decide) ?_
      exact wp_sub [1, 0] rfl h
set_option maxHeartbeats 1000000 in
theorem sg_X3_spaceOf_0 {h0 : Nat} {i1 : Int32} {rc rs : Nat} {QR : Option aV → aW → Prop} {QX : String → aW → Prop} {w : aW} (h : wp (KX3_spaceOf) rc rs QR QX 5 [(0, vR (some h0)), (1, vI i1), (2, vL 0), (4, vI 0)] [] w) : wp (KX3_spaceOf) rc rs QR QX 0 [(0, vR (some h0)), (1, vI i1)] [] w := by
  refine wp_lconst (n := 1) (v := 0) dX3_spaceOf_0 rfl (by decide) ?_
  refine wp_lstore_n (n := 2) (i := 2) (ls' := [(2, vL 0), (0, vR (some h0)), (1, vI i1)]) dX3_spaceOf_1 rfl rfl (Nat.le_of_ble_eq_true rfl) rfl ?_
  refine wp_iconst (n := 3) (v := 0) dX3_spaceOf_2 rfl (by decide) ?_
  refine wp_istore (n := 5) (i := 4) (ls' := [(4, vI 0), (2, vL 0), (0, vR (some h0)), (1, vI i1)]) dX3_spaceOf_3 rfl (Nat.le_of_ble_eq_true rfl) rfl ?_
  exact wp_sub [2, 3, 1, 0] rfl h
set_option maxHeartbeats 1000000 in
theorem sg_X3_spaceOf_5 {h0 : Nat} {i1 : Int32} {l2 : Int64} {i4 : Int32} {rc rs : Nat} {QR : Option aV → aW → Prop} {QX : String → aW → Prop} {w : aW} (h : (12 ≤ i4 → QR (some (vL l2)) w) ∧ (¬ 12 ≤ i4 → ∃ x13 : Nat, gf w h0 [3] 1 (vR (some x13)) ∧ ∃ x26 : Int32, gI w x13 ((122 + (12 * i1)) + i4) x26 ∧ (¬ x26 = (-1) → ∃ x41 : Nat, gf w h0 [3] 1 (vR (some x41)) ∧ ∃ x50 : Int32, gI w x41 (362 + x26) x50 ∧ wp (KX3_spaceOf) rc rs QR QX 5 [(0, vR (some h0)), (1, vI i1), (2, vL (l2 + (Int32.toInt64 x50))), (4, vI (i4 + 1))] [] w) ∧ (x26 = (-1) → wp (KX3_spaceOf) rc rs QR QX 5 [(0, vR (some h0)), (1, vI i1), (2, vL (l2 + 0)), (4, vI (i4 + 1))] [] w))) : wp (KX3_spaceOf) rc rs QR QX 5 [(0, vR (some h0)), (1, vI i1), (2, vL l2), (4, vI i4)] [] w := by
  refine wp_iload (n := 7) (i := 4) (q := 3) dX3_spaceOf_5 rfl rfl ?_
  refine wp_bipush (n := 9) (v := 12) dX3_spaceOf_7 rfl (by decide) ?_
  refine wp_icmp_ge (n := 12) (t := 60) dX3_spaceOf_9 rfl (by decide) (fun c9 => ?_) (fun c9 => ?_)
  · replace h := h.1 c9
    refine wp_lload_n (n := 61) (i := 2) (q := 2) dX3_spaceOf_60 rfl rfl rfl ?_
    exact wp_lreturn dX3_spaceOf_61 rfl h
  · replace h := h.2 c9
    refine wp_aload_n (n := 13) (i := 0) (q := 0) dX3_spaceOf_12 rfl rfl rfl ?_
    obtain ⟨x13, g13, h⟩ := h
    refine wp_gf (n := 16) dX3_spaceOf_13 rfl fl_X3_7 g13 ?_
    refine wp_bipush (n := 18) (v := 122) dX3_spaceOf_16 rfl (by decide) ?_
    refine wp_bipush (n := 20) (v := 12) dX3_spaceOf_18 rfl (by decide) ?_
    refine wp_iload_n (n := 21) (i := 1) (q := 1) dX3_spaceOf_20 rfl rfl rfl ?_
    refine wp_imul (n := 22) dX3_spaceOf_21 rfl ?_
    refine wp_iadd (n := 23) dX3_spaceOf_22 rfl ?_
    refine wp_iload (n := 25) (i := 4) (q := 3) dX3_spaceOf_23 rfl rfl ?_
    refine wp_iadd (n := 26) dX3_spaceOf_25 rfl ?_
    obtain ⟨x26, g26, h⟩ := h
    refine wp_gI (n := 27) dX3_spaceOf_26 rfl g26 ?_
    refine wp_istore (n := 29) (i := 5) (ls' := [(5, vI x26), (0, vR (some h0)), (1, vI i1), (2, vL l2), (4, vI i4)]) dX3_spaceOf_27 rfl (Nat.le_of_ble_eq_true rfl) rfl ?_
    refine wp_lload_n (n := 30) (i := 2) (q := 3) dX3_spaceOf_29 rfl rfl rfl ?_
    refine wp_iload (n := 32) (i := 5) (q := 0) dX3_spaceOf_30 rfl rfl ?_
    refine wp_iconst (n := 33) (v := (-1)) dX3_spaceOf_32 rfl (by decide) ?_
    refine wp_icmp_ne (n := 36) (t := 40) dX3_spaceOf_33 rfl (by decide) (fun c33 => ?_) (fun c33 => ?_)
    · replace h := h.1 c33
      refine wp_aload_n (n := 41) (i := 0) (q := 1) dX3_spaceOf_40 rfl rfl rfl ?_
      obtain ⟨x41, g41, h⟩ := h
      refine wp_gf (n := 44) dX3_spaceOf_41 rfl fl_X3_7 g41 ?_
      refine wp_sipush (n := 47) (v := 362) dX3_spaceOf_44 rfl (by decide) ?_
      refine wp_iload (n := 49) (i := 5) (q := 0) dX3_spaceOf_47 rfl rfl ?_
      refine wp_iadd (n := 50) dX3_spaceOf_49 rfl ?_
      obtain ⟨x50, g50, h⟩ := h
      refine wp_gI (n := 51) dX3_spaceOf_50 rfl g50 ?_
      refine wp_i2l (n := 52) dX3_spaceOf_51 rfl ?_
      refine wp_ladd (n := 53) dX3_spaceOf_52 rfl ?_
      refine wp_lstore_n (n := 54) (i := 2) (ls' := [(2, vL (l2 + (Int32.toInt64 x50))), (5, vI x26), (0, vR (some h0)), (1, vI i1), (4, vI i4)]) dX3_spaceOf_53 rfl rfl (Nat.le_of_ble_eq_true rfl) rfl ?_
      refine wp_iinc (n := 57) (i := 4) (q := 4) (v := i4 + 1) (ls' := [(4, vI (i4 + 1)), (2, vL (l2 + (Int32.toInt64 x50))), (5, vI x26), (0, vR (some h0)), (1, vI i1)]) dX3_spaceOf_54 rfl rfl rfl (Nat.le_of_ble_eq_true rfl) rfl ?_
      refine wp_goto (t := 5) dX3_spaceOf_57 (by decide) ?_
      exact wp_sub [3, 4, 1, 0] rfl h
    · replace h := h.2 c33
      refine wp_lconst (n := 37) (v := 0) dX3_spaceOf_36 rfl (by decide) ?_
      refine wp_goto (t := 52) dX3_spaceOf_37 (by decide) ?_
      refine wp_ladd (n := 53) dX3_spaceOf_52 rfl ?_
      refine wp_lstore_n (n := 54) (i := 2) (ls' := [(2, vL (l2 + 0)), (5, vI x26), (0, vR (some h0)), (1, vI i1), (4, vI i4)]) dX3_spaceOf_53 rfl rfl (Nat.le_of_ble_eq_true rfl) rfl ?_
      refine wp_iinc (n := 57) (i := 4) (q := 4) (v := i4 + 1) (ls' := [(4, vI (i4 + 1)), (2, vL (l2 + 0)), (5, vI x26), (0, vR (some h0)), (1, vI i1)]) dX3_spaceOf_54 rfl rfl rfl (Nat.le_of_ble_eq_true rfl) rfl ?_
      refine wp_goto (t := 5) dX3_spaceOf_57 (by decide) ?_
      exact wp_sub [3, 4, 1, 0] rfl h
set_option maxHeartbeats 1000000 in
theorem sg_X3_sizeIn_0 {h0 : Nat} {i1 : Int32} {i2 : Int32} {rc rs : Nat} {QR : Option aV → aW → Prop} {QX : String → aW → Prop} {w : aW} (h : ∃ x1 : Nat, gf w h0 [3] 1 (vR (some x1)) ∧ ∃ x13 : Int32, gI w x1 ((122 + (12 * i1)) + i2) x13 ∧ (¬ x13 = (-1) → ∃ x25 : Nat, gf w h0 [3] 1 (vR (some x25)) ∧ ∃ x33 : Int32, gI w x25 (362 + x13) x33 ∧ QR (some (vI x33)) w) ∧ (x13 = (-1) → QR (some (vI 0)) w)) : wp (KX3_sizeIn) rc rs QR QX 0 [(0, vR (some h0)), (1, vI i1), (2, vI i2)] [] w := by
  refine wp_aload_n (n := 1) (i := 0) (q := 0) dX3_sizeIn_0 rfl rfl rfl ?_
  obtain ⟨x1, g1, h⟩ := h
  refine wp_gf (n := 4) dX3_sizeIn_1 rfl fl_X3_7 g1 ?_
  refine wp_bipush (n := 6) (v := 122) dX3_sizeIn_4 rfl (by decide) ?_
  refine wp_bipush (n := 8) (v := 12) dX3_sizeIn_6 rfl (by decide) ?_
  refine wp_iload_n (n := 9) (i := 1) (q := 1) dX3_sizeIn_8 rfl rfl rfl ?_
  refine wp_imul (n := 10) dX3_sizeIn_9 rfl ?_
  refine wp_iadd (n := 11) dX3_sizeIn_10 rfl ?_
  refine wp_iload_n (n := 12) (i := 2) (q := 2) dX3_sizeIn_11 rfl rfl rfl ?_
  refine wp_iadd (n := 13) dX3_sizeIn_12 rfl ?_
  obtain ⟨x13, g13, h⟩ := h
  refine wp_gI (n := 14) dX3_sizeIn_13 rfl g13 ?_
  refine wp_istore_n (n := 15) (i := 3) (ls' := [(3, vI x13), (0, vR (some h0)), (1, vI i1), (2, vI i2)]) dX3_sizeIn_14 rfl rfl (Nat.le_of_ble_eq_true rfl) rfl ?_
  refine wp_iload_n (n := 16) (i := 3) (q := 0) dX3_sizeIn_15 rfl rfl rfl ?_
  refine wp_iconst (n := 17) (v := (-1)) dX3_sizeIn_16 rfl (by decide) ?_
  refine wp_icmp_ne (n := 20) (t := 24) dX3_sizeIn_17 rfl (by decide) (fun c17 => ?_) (fun c17 => ?_)
  · replace h := h.1 c17
    refine wp_aload_n (n := 25) (i := 0) (q := 1) dX3_sizeIn_24 rfl rfl rfl ?_
    obtain ⟨x25, g25, h⟩ := h
    refine wp_gf (n := 28) dX3_sizeIn_25 rfl fl_X3_7 g25 ?_
    refine wp_sipush (n := 31) (v := 362) dX3_sizeIn_28 rfl (by decide) ?_
    refine wp_iload_n (n := 32) (i := 3) (q := 0) dX3_sizeIn_31 rfl rfl rfl ?_
    refine wp_iadd (n := 33) dX3_sizeIn_32 rfl ?_
    obtain ⟨x33, g33, h⟩ := h
    refine wp_gI (n := 34) dX3_sizeIn_33 rfl g33 ?_
    exact wp_ireturn dX3_sizeIn_34 rfl h
  · replace h := h.2 c17
    refine wp_iconst (n := 21) (v := 0) dX3_sizeIn_20 rfl (by decide) ?_
    refine wp_goto (t := 34) dX3_sizeIn_21 (by decide) ?_
    exact wp_ireturn dX3_sizeIn_34 rfl h
set_option maxHeartbeats 1000000 in
theorem sg_X3_written_0 {h0 : Nat} {i1 : Int32} {i2 : Int32} {i3 : Int32} {rc rs : Nat} {QR : Option aV → aW → Prop} {QX : String → aW → Prop} {w : aW} (h : isO w h0 3 ∧ ct (KX3_newBlock) 0 0 [vR (some h0)] w (fun v1 w1 => ∃ x1 : Int32, v1 = some (vI x1) ∧ ∃ x7 : Nat, gf w1 h0 [3] 1 (vR (some x7)) ∧ ∃ x13 : Int32, gI w1 x7 (2 + i1) x13 ∧ (¬ x13 = 1 → (x1 = 96 → QR (some (vI (-4))) w1) ∧ (¬ x1 = 96 → ∃ x71 : Nat, gf w1 h0 [3] 1 (vR (some x71)) ∧ pI w1 x71 (362 + x1) i3 (fun w81 => ∃ x83 : Nat, gf w81 h0 [3] 1 (vR (some x83)) ∧ ∃ x93 : Nat, gf w81 h0 [3] 1 (vR (some x93)) ∧ ∃ x97 : Int32, gI w81 x93 0 x97 ∧ pI w81 x83 (458 + x1) x97 (fun w98 => ∃ x100 : Nat, gf w98 h0 [3] 1 (vR (some x100)) ∧ pI w98 x100 ((122 + (12 * i1)) + i2) x1 (fun w114 => isO w114 h0 3 ∧ ct (KX3_frees) 0 0 [vR (some h0)] w114 (fun v116 w116 => ∃ x116 : Int32, v116 = some (vI x116) ∧ QR (some (vI x1)) w116) (fun E116 w116 => False)))))) ∧ (x13 = 1 → isO w1 h0 3 ∧ ct (KX3_spaceOf) 0 0 [vR (some h0), vI i1] w1 (fun v20 w20 => ∃ x20 : Int64, v20 = some (vL x20) ∧ isO w20 h0 3 ∧ ct (KX3_sizeIn) 0 0 [vR (some h0), vI i1, vI i2] w20 (fun v26 w26 => ∃ x26 : Int32, v26 = some (vI x26) ∧ ∃ x35 : Nat, gf w26 h0 [3] 1 (vR (some x35)) ∧ ∃ x42 : Int32, gI w26 x35 (82 + i1) x42 ∧ (¬ (Int32.toInt64 x42) < ((x20 - (Int32.toInt64 x26)) + (Int32.toInt64 i3)) → (x1 = 96 → QR (some (vI (-4))) w26) ∧ (¬ x1 = 96 → ∃ x71 : Nat, gf w26 h0 [3] 1 (vR (some x71)) ∧ pI w26 x71 (362 + x1) i3 (fun w81 => ∃ x83 : Nat, gf w81 h0 [3] 1 (vR (some x83)) ∧ ∃ x93 : Nat, gf w81 h0 [3] 1 (vR (some x93)) ∧ ∃ x97 : Int32, gI w81 x93 0 x97 ∧ pI w81 x83 (458 + x1) x97 (fun w98 => ∃ x100 : Nat, gf w98 h0 [3] 1 (vR (some x100)) ∧ pI w98 x100 ((122 + (12 * i1)) + i2) x1 (fun w114 => isO w114 h0 3 ∧ ct (KX3_frees) 0 0 [vR (some h0)] w114 (fun v116 w116 => ∃ x116 : Int32, v116 = some (vI x116) ∧ QR (some (vI x1)) w116) (fun E116 w116 => False)))))) ∧ ((Int32.toInt64 x42) < ((x20 - (Int32.toInt64 x26)) + (Int32.toInt64 i3)) → (x1 = 96 → QR (some (vI (-4))) w26) ∧ (¬ x1 = 96 → QR (some (vI (-4))) w26))) (fun E26 w26 => False)) (fun E20 w20 => False))) (fun E1 w1 => False)) : wp (KX3_written) rc rs QR QX 0 [(0, vR (some h0)), (1, vI i1), (2, vI i2), (3, vI i3)] [] w := by
  refine wp_aload_n (n := 1) (i := 0) (q := 0) dX3_written_0 rfl rfl rfl ?_
  obtain ⟨⟨fs1, o1⟩, h⟩ := h
  refine wp_call (n := 4) (K' := KX3_newBlock) (rc' := rc) (rs' := rs) (aRun_V (K' := KX3_newBlock) (As := []) (rest := []) (b := h0) (c0 := .inr (3, fs1)) dX3_written_1 (aCal_of kf_X3_newBlock (Nat.le_of_ble_eq_true rfl)) q1111 q1113 qs57 ar_X3_newBlock o1 (by decide : 3 < 9) rfl (Nat.le_of_ble_eq_true rfl)) rfl (Nat.le_of_eq (Nat.zero_add _)) (Nat.le_of_eq (Nat.zero_add _)) (fun v1 w1 h => ?_) (fun E1 w1 h => ?_) h
  · obtain ⟨x1, rfl, h⟩ := h
    refine wp_istore (n := 6) (i := 4) (ls' := [(4, vI x1), (0, vR (some h0)), (1, vI i1), (2, vI i2), (3, vI i3)]) dX3_written_4 rfl (Nat.le_of_ble_eq_true rfl) rfl ?_
    refine wp_aload_n (n := 7) (i := 0) (q := 1) dX3_written_6 rfl rfl rfl ?_
    obtain ⟨x7, g7, h⟩ := h
    refine wp_gf (n := 10) dX3_written_7 rfl fl_X3_7 g7 ?_
    refine wp_iconst (n := 11) (v := 2) dX3_written_10 rfl (by decide) ?_
    refine wp_iload_n (n := 12) (i := 1) (q := 2) dX3_written_11 rfl rfl rfl ?_
    refine wp_iadd (n := 13) dX3_written_12 rfl ?_
    obtain ⟨x13, g13, h⟩ := h
    refine wp_gI (n := 14) dX3_written_13 rfl g13 ?_
    refine wp_iconst (n := 15) (v := 1) dX3_written_14 rfl (by decide) ?_
    refine wp_icmp_ne (n := 18) (t := 52) dX3_written_15 rfl (by decide) (fun c15 => ?_) (fun c15 => ?_)
    · replace h := h.1 c15
      refine wp_iconst (n := 53) (v := 0) dX3_written_52 rfl (by decide) ?_
      refine wp_istore (n := 55) (i := 5) (ls' := [(5, vI 0), (4, vI x1), (0, vR (some h0)), (1, vI i1), (2, vI i2), (3, vI i3)]) dX3_written_53 rfl (Nat.le_of_ble_eq_true rfl) rfl ?_
      refine wp_iload (n := 57) (i := 4) (q := 1) dX3_written_55 rfl rfl ?_
      refine wp_bipush (n := 59) (v := 96) dX3_written_57 rfl (by decide) ?_
      refine wp_icmp_eq (n := 62) (t := 67) dX3_written_59 rfl (by decide) (fun c59 => ?_) (fun c59 => ?_)
      · replace h := h.1 c59
        refine wp_bipush (n := 69) (v := (-4)) dX3_written_67 rfl (by decide) ?_
        exact wp_ireturn dX3_written_69 rfl h
      · replace h := h.2 c59
        refine wp_iload (n := 64) (i := 5) (q := 0) dX3_written_62 rfl rfl ?_
        refine wp_if_eq (n := 67) (t := 70) dX3_written_64 rfl (by decide) (fun _ => ?_) (fun z => absurd z (by decide))
        refine wp_aload_n (n := 71) (i := 0) (q := 2) dX3_written_70 rfl rfl rfl ?_
        obtain ⟨x71, g71, h⟩ := h
        refine wp_gf (n := 74) dX3_written_71 rfl fl_X3_7 g71 ?_
        refine wp_sipush (n := 77) (v := 362) dX3_written_74 rfl (by decide) ?_
        refine wp_iload (n := 79) (i := 4) (q := 1) dX3_written_77 rfl rfl ?_
        refine wp_iadd (n := 80) dX3_written_79 rfl ?_
        refine wp_iload_n (n := 81) (i := 3) (q := 5) dX3_written_80 rfl rfl rfl ?_
        refine wp_pI (n := 82) dX3_written_81 rfl (pI_mono h (fun w81 h => ?_))
        refine wp_aload_n (n := 83) (i := 0) (q := 2) dX3_written_82 rfl rfl rfl ?_
        obtain ⟨x83, g83, h⟩ := h
        refine wp_gf (n := 86) dX3_written_83 rfl fl_X3_7 g83 ?_
        refine wp_sipush (n := 89) (v := 458) dX3_written_86 rfl (by decide) ?_
        refine wp_iload (n := 91) (i := 4) (q := 1) dX3_written_89 rfl rfl ?_
        refine wp_iadd (n := 92) dX3_written_91 rfl ?_
        refine wp_aload_n (n := 93) (i := 0) (q := 2) dX3_written_92 rfl rfl rfl ?_
        obtain ⟨x93, g93, h⟩ := h
        refine wp_gf (n := 96) dX3_written_93 rfl fl_X3_7 g93 ?_
        refine wp_iconst (n := 97) (v := 0) dX3_written_96 rfl (by decide) ?_
        obtain ⟨x97, g97, h⟩ := h
        refine wp_gI (n := 98) dX3_written_97 rfl g97 ?_
        refine wp_pI (n := 99) dX3_written_98 rfl (pI_mono h (fun w98 h => ?_))
        refine wp_aload_n (n := 100) (i := 0) (q := 2) dX3_written_99 rfl rfl rfl ?_
        obtain ⟨x100, g100, h⟩ := h
        refine wp_gf (n := 103) dX3_written_100 rfl fl_X3_7 g100 ?_
        refine wp_bipush (n := 105) (v := 122) dX3_written_103 rfl (by decide) ?_
        refine wp_bipush (n := 107) (v := 12) dX3_written_105 rfl (by decide) ?_
        refine wp_iload_n (n := 108) (i := 1) (q := 3) dX3_written_107 rfl rfl rfl ?_
        refine wp_imul (n := 109) dX3_written_108 rfl ?_
        refine wp_iadd (n := 110) dX3_written_109 rfl ?_
        refine wp_iload_n (n := 111) (i := 2) (q := 4) dX3_written_110 rfl rfl rfl ?_
        refine wp_iadd (n := 112) dX3_written_111 rfl ?_
        refine wp_iload (n := 114) (i := 4) (q := 1) dX3_written_112 rfl rfl ?_
        refine wp_pI (n := 115) dX3_written_114 rfl (pI_mono h (fun w114 h => ?_))
        refine wp_aload_n (n := 116) (i := 0) (q := 2) dX3_written_115 rfl rfl rfl ?_
        obtain ⟨⟨fs116, o116⟩, h⟩ := h
        refine wp_call (n := 119) (K' := KX3_frees) (rc' := rc) (rs' := rs) (aRun_V (K' := KX3_frees) (As := []) (rest := []) (b := h0) (c0 := .inr (3, fs116)) dX3_written_116 (aCal_of kf_X3_frees (Nat.le_of_ble_eq_true rfl)) q1123 q1125 qs60 ar_X3_frees o116 (by decide : 3 < 9) rfl (Nat.le_of_ble_eq_true rfl)) rfl (Nat.le_of_eq (Nat.zero_add _)) (Nat.le_of_eq (Nat.zero_add _)) (fun v116 w116 h => ?_) (fun E116 w116 h => ?_) h
        · obtain ⟨x116, rfl, h⟩ := h
          refine wp_pop (n := 120) dX3_written_119 rfl rfl ?_
          refine wp_iload (n := 122) (i := 4) (q := 1) dX3_written_120 rfl rfl ?_
          exact wp_ireturn dX3_written_122 rfl h
        · exact h.elim
    · replace h := h.2 c15
      refine wp_aload_n (n := 19) (i := 0) (q := 1) dX3_written_18 rfl rfl rfl ?_
      refine wp_iload_n (n := 20) (i := 1) (q := 2) dX3_written_19 rfl rfl rfl ?_
      obtain ⟨⟨fs20, o20⟩, h⟩ := h
      refine wp_call (n := 23) (K' := KX3_spaceOf) (rc' := rc) (rs' := rs) (aRun_V (K' := KX3_spaceOf) (As := [vI i1]) (rest := []) (b := h0) (c0 := .inr (3, fs20)) dX3_written_20 (aCal_of kf_X3_spaceOf (Nat.le_of_ble_eq_true rfl)) q1115 q1117 qs58 ar_X3_spaceOf o20 (by decide : 3 < 9) rfl (Nat.le_of_ble_eq_true rfl)) rfl (Nat.le_of_eq (Nat.zero_add _)) (Nat.le_of_eq (Nat.zero_add _)) (fun v20 w20 h => ?_) (fun E20 w20 h => ?_) h
      · obtain ⟨x20, rfl, h⟩ := h
        refine wp_aload_n (n := 24) (i := 0) (q := 1) dX3_written_23 rfl rfl rfl ?_
        refine wp_iload_n (n := 25) (i := 1) (q := 2) dX3_written_24 rfl rfl rfl ?_
        refine wp_iload_n (n := 26) (i := 2) (q := 3) dX3_written_25 rfl rfl rfl ?_
        obtain ⟨⟨fs26, o26⟩, h⟩ := h
        refine wp_call (n := 29) (K' := KX3_sizeIn) (rc' := rc) (rs' := rs) (aRun_V (K' := KX3_sizeIn) (As := [vI i1, vI i2]) (rest := [vL x20]) (b := h0) (c0 := .inr (3, fs26)) dX3_written_26 (aCal_of kf_X3_sizeIn (Nat.le_of_ble_eq_true rfl)) q1119 q1121 qs59 ar_X3_sizeIn o26 (by decide : 3 < 9) rfl (Nat.le_of_ble_eq_true rfl)) rfl (Nat.le_of_eq (Nat.zero_add _)) (Nat.le_of_eq (Nat.zero_add _)) (fun v26 w26 h => ?_) (fun E26 w26 h => ?_) h
        · obtain ⟨x26, rfl, h⟩ := h
          refine wp_i2l (n := 30) dX3_written_29 rfl ?_
          refine wp_lsub (n := 31) dX3_written_30 rfl ?_
          refine wp_iload_n (n := 32) (i := 3) (q := 4) dX3_written_31 rfl rfl rfl ?_
          refine wp_i2l (n := 33) dX3_written_32 rfl ?_
          refine wp_ladd (n := 34) dX3_written_33 rfl ?_
          refine wp_aload_n (n := 35) (i := 0) (q := 1) dX3_written_34 rfl rfl rfl ?_
          obtain ⟨x35, g35, h⟩ := h
          refine wp_gf (n := 38) dX3_written_35 rfl fl_X3_7 g35 ?_
          refine wp_bipush (n := 40) (v := 82) dX3_written_38 rfl (by decide) ?_
          refine wp_iload_n (n := 41) (i := 1) (q := 2) dX3_written_40 rfl rfl rfl ?_
          refine wp_iadd (n := 42) dX3_written_41 rfl ?_
          obtain ⟨x42, g42, h⟩ := h
          refine wp_gI (n := 43) dX3_written_42 rfl g42 ?_
          refine wp_i2l (n := 44) dX3_written_43 rfl ?_
          refine wp_lcmp (n := 45) dX3_written_44 rfl ?_
          refine wp_if_le (n := 48) (t := 52) dX3_written_45 rfl (by decide) (fun c45 => ?_) (fun c45 => ?_)
          · replace h := h.1 (lgc_le.mp c45)
            refine wp_iconst (n := 53) (v := 0) dX3_written_52 rfl (by decide) ?_
            refine wp_istore (n := 55) (i := 5) (ls' := [(5, vI 0), (4, vI x1), (0, vR (some h0)), (1, vI i1), (2, vI i2), (3, vI i3)]) dX3_written_53 rfl (Nat.le_of_ble_eq_true rfl) rfl ?_
            refine wp_iload (n := 57) (i := 4) (q := 1) dX3_written_55 rfl rfl ?_
            refine wp_bipush (n := 59) (v := 96) dX3_written_57 rfl (by decide) ?_
            refine wp_icmp_eq (n := 62) (t := 67) dX3_written_59 rfl (by decide) (fun c59 => ?_) (fun c59 => ?_)
            · replace h := h.1 c59
              refine wp_bipush (n := 69) (v := (-4)) dX3_written_67 rfl (by decide) ?_
              exact wp_ireturn dX3_written_69 rfl h
            · replace h := h.2 c59
              refine wp_iload (n := 64) (i := 5) (q := 0) dX3_written_62 rfl rfl ?_
              refine wp_if_eq (n := 67) (t := 70) dX3_written_64 rfl (by decide) (fun _ => ?_) (fun z => absurd z (by decide))
              refine wp_aload_n (n := 71) (i := 0) (q := 2) dX3_written_70 rfl rfl rfl ?_
              obtain ⟨x71, g71, h⟩ := h
              refine wp_gf (n := 74) dX3_written_71 rfl fl_X3_7 g71 ?_
              refine wp_sipush (n := 77) (v := 362) dX3_written_74 rfl (by decide) ?_
              refine wp_iload (n := 79) (i := 4) (q := 1) dX3_written_77 rfl rfl ?_
              refine wp_iadd (n := 80) dX3_written_79 rfl ?_
              refine wp_iload_n (n := 81) (i := 3) (q := 5) dX3_written_80 rfl rfl rfl ?_
              refine wp_pI (n := 82) dX3_written_81 rfl (pI_mono h (fun w81 h => ?_))
              refine wp_aload_n (n := 83) (i := 0) (q := 2) dX3_written_82 rfl rfl rfl ?_
              obtain ⟨x83, g83, h⟩ := h
              refine wp_gf (n := 86) dX3_written_83 rfl fl_X3_7 g83 ?_
              refine wp_sipush (n := 89) (v := 458) dX3_written_86 rfl (by decide) ?_
              refine wp_iload (n := 91) (i := 4) (q := 1) dX3_written_89 rfl rfl ?_
              refine wp_iadd (n := 92) dX3_written_91 rfl ?_
              refine wp_aload_n (n := 93) (i := 0) (q := 2) dX3_written_92 rfl rfl rfl ?_
              obtain ⟨x93, g93, h⟩ := h
              refine wp_gf (n := 96) dX3_written_93 rfl fl_X3_7 g93 ?_
              refine wp_iconst (n := 97) (v := 0) dX3_written_96 rfl (by decide) ?_
              obtain ⟨x97, g97, h⟩ := h
              refine wp_gI (n := 98) dX3_written_97 rfl g97 ?_
              refine wp_pI (n := 99) dX3_written_98 rfl (pI_mono h (fun w98 h => ?_))
              refine wp_aload_n (n := 100) (i := 0) (q := 2) dX3_written_99 rfl rfl rfl ?_
              obtain ⟨x100, g100, h⟩ := h
              refine wp_gf (n := 103) dX3_written_100 rfl fl_X3_7 g100 ?_
              refine wp_bipush (n := 105) (v := 122) dX3_written_103 rfl (by decide) ?_
              refine wp_bipush (n := 107) (v := 12) dX3_written_105 rfl (by decide) ?_
              refine wp_iload_n (n := 108) (i := 1) (q := 3) dX3_written_107 rfl rfl rfl ?_
              refine wp_imul (n := 109) dX3_written_108 rfl ?_
              refine wp_iadd (n := 110) dX3_written_109 rfl ?_
              refine wp_iload_n (n := 111) (i := 2) (q := 4) dX3_written_110 rfl rfl rfl ?_
              refine wp_iadd (n := 112) dX3_written_111 rfl ?_
              refine wp_iload (n := 114) (i := 4) (q := 1) dX3_written_112 rfl rfl ?_
              refine wp_pI (n := 115) dX3_written_114 rfl (pI_mono h (fun w114 h => ?_))
              refine wp_aload_n (n := 116) (i := 0) (q := 2) dX3_written_115 rfl rfl rfl ?_
              obtain ⟨⟨fs116, o116⟩, h⟩ := h
              refine wp_call (n := 119) (K' := KX3_frees) (rc' := rc) (rs' := rs) (aRun_V (K' := KX3_frees) (As := []) (rest := []) (b := h0) (c0 := .inr (3, fs116)) dX3_written_116 (aCal_of kf_X3_frees (Nat.le_of_ble_eq_true rfl)) q1123 q1125 qs60 ar_X3_frees o116 (by decide : 3 < 9) rfl (Nat.le_of_ble_eq_true rfl)) rfl (Nat.le_of_eq (Nat.zero_add _)) (Nat.le_of_eq (Nat.zero_add _)) (fun v116 w116 h => ?_) (fun E116 w116 h => ?_) h
              · obtain ⟨x116, rfl, h⟩ := h
                refine wp_pop (n := 120) dX3_written_119 rfl rfl ?_
                refine wp_iload (n := 122) (i := 4) (q := 1) dX3_written_120 rfl rfl ?_
                exact wp_ireturn dX3_written_122 rfl h
              · exact h.elim
          · replace h := h.2 (Classical.byContradiction (fun z => c45 (lgc_le.mpr z)))
            refine wp_iconst (n := 49) (v := 1) dX3_written_48 rfl (by decide) ?_
            refine wp_goto (t := 53) dX3_written_49 (by decide) ?_
            refine wp_istore (n := 55) (i := 5) (ls' := [(5, vI 1), (4, vI x1), (0, vR (some h0)), (1, vI i1), (2, vI i2), (3, vI i3)]) dX3_written_53 rfl (Nat.le_of_ble_eq_true rfl) rfl ?_
            refine wp_iload (n := 57) (i := 4) (q := 1) dX3_written_55 rfl rfl ?_
            refine wp_bipush (n := 59) (v := 96) dX3_written_57 rfl (by decide) ?_
            refine wp_icmp_eq (n := 62) (t := 67) dX3_written_59 rfl (by decide) (fun c59 => ?_) (fun c59 => ?_)
            · replace h := h.1 c59
              refine wp_bipush (n := 69) (v := (-4)) dX3_written_67 rfl (by decide) ?_
              exact wp_ireturn dX3_written_69 rfl h
            · replace h := h.2 c59
              refine wp_iload (n := 64) (i := 5) (q := 0) dX3_written_62 rfl rfl ?_
              refine wp_if_eq (n := 67) (t := 70) dX3_written_64 rfl (by decide) (fun z => absurd z (by decide)) (fun _ => ?_)
              refine wp_bipush (n := 69) (v := (-4)) dX3_written_67 rfl (by decide) ?_
              exact wp_ireturn dX3_written_69 rfl h
        · exact h.elim
      · exact h.elim
  · exact h.elim
set_option maxHeartbeats 1000000 in
theorem sg_X3_isApplied_0 {h0 : Nat} {i1 : Int32} {l2 : Int64} {l4 : Int64} {rc rs : Nat} {QR : Option aV → aW → Prop} {QX : String → aW → Prop} {w : aW} (h : (l2 < 0 → QR (some (vI 0)) w) ∧ (¬ l2 < 0 → (11 < l2 → QR (some (vI 0)) w) ∧ (¬ 11 < l2 → (l4 < 0 → QR (some (vI 0)) w) ∧ (¬ l4 < 0 → (¬ 1000000000 < l4 → (¬ l4 = 0 → isO w h0 3 ∧ ct (KX3_written) 0 0 [vR (some h0), vI i1, vI (Int64.toInt32 l2), vI (Int64.toInt32 l4)] w (fun v56 w56 => ∃ x56 : Int32, v56 = some (vI x56) ∧ (x56 < 0 → QR (some (vI 0)) w56) ∧ (¬ x56 < 0 → QR (some (vI 1)) w56)) (fun E56 w56 => False)) ∧ (l4 = 0 → isO w h0 3 ∧ ct (KX3_erased) 0 0 [vR (some h0), vI i1, vI (Int64.toInt32 l2)] w (fun v43 w43 => ∃ x43 : Int32, v43 = some (vI x43) ∧ QR (some (vI 1)) w43) (fun E43 w43 => False))) ∧ (1000000000 < l4 → QR (some (vI 0)) w))))) : wp (KX3_isApplied) rc rs QR QX 0 [(0, vR (some h0)), (1, vI i1), (2, vL l2), (4, vL l4)] [] w := by
  refine wp_lload_n (n := 1) (i := 2) (q := 2) dX3_isApplied_0 rfl rfl rfl ?_
  refine wp_lconst (n := 2) (v := 0) dX3_isApplied_1 rfl (by decide) ?_
  refine wp_lcmp (n := 3) dX3_isApplied_2 rfl ?_
  refine wp_if_lt (n := 6) (t := 30) dX3_isApplied_3 rfl (by decide) (fun c3 => ?_) (fun c3 => ?_)
  · replace h := h.1 (lgc_lt.mp c3)
    refine wp_iconst (n := 31) (v := 0) dX3_isApplied_30 rfl (by decide) ?_
    exact wp_zreturn dX3_isApplied_31 rfl (by decide) h
  · replace h := h.2 (fun z => c3 (lgc_lt.mpr z))
    refine wp_lload_n (n := 7) (i := 2) (q := 2) dX3_isApplied_6 rfl rfl rfl ?_
    refine wp_ldc2 (n := 10) dX3_isApplied_7 rfl q1336 ?_
    refine wp_lcmp (n := 11) dX3_isApplied_10 rfl ?_
    refine wp_if_gt (n := 14) (t := 30) dX3_isApplied_11 rfl (by decide) (fun c11 => ?_) (fun c11 => ?_)
    · replace h := h.1 (lgc_gt.mp c11)
      refine wp_iconst (n := 31) (v := 0) dX3_isApplied_30 rfl (by decide) ?_
      exact wp_zreturn dX3_isApplied_31 rfl (by decide) h
    · replace h := h.2 (fun z => c11 (lgc_gt.mpr z))
      refine wp_lload (n := 16) (i := 4) (q := 3) dX3_isApplied_14 rfl rfl ?_
      refine wp_lconst (n := 17) (v := 0) dX3_isApplied_16 rfl (by decide) ?_
      refine wp_lcmp (n := 18) dX3_isApplied_17 rfl ?_
      refine wp_if_lt (n := 21) (t := 30) dX3_isApplied_18 rfl (by decide) (fun c18 => ?_) (fun c18 => ?_)
      · replace h := h.1 (lgc_lt.mp c18)
        refine wp_iconst (n := 31) (v := 0) dX3_isApplied_30 rfl (by decide) ?_
        exact wp_zreturn dX3_isApplied_31 rfl (by decide) h
      · replace h := h.2 (fun z => c18 (lgc_lt.mpr z))
        refine wp_lload (n := 23) (i := 4) (q := 3) dX3_isApplied_21 rfl rfl ?_
        refine wp_ldc2 (n := 26) dX3_isApplied_23 rfl q1337 ?_
        refine wp_lcmp (n := 27) dX3_isApplied_26 rfl ?_
        refine wp_if_le (n := 30) (t := 32) dX3_isApplied_27 rfl (by decide) (fun c27 => ?_) (fun c27 => ?_)
        · replace h := h.1 (lgc_le.mp c27)
          refine wp_lload (n := 34) (i := 4) (q := 3) dX3_isApplied_32 rfl rfl ?_
          refine wp_lconst (n := 35) (v := 0) dX3_isApplied_34 rfl (by decide) ?_
          refine wp_lcmp (n := 36) dX3_isApplied_35 rfl ?_
          refine wp_if_ne (n := 39) (t := 49) dX3_isApplied_36 rfl (by decide) (fun c36 => ?_) (fun c36 => ?_)
          · replace h := h.1 (lgc_ne.mp c36)
            refine wp_aload_n (n := 50) (i := 0) (q := 0) dX3_isApplied_49 rfl rfl rfl ?_
            refine wp_iload_n (n := 51) (i := 1) (q := 1) dX3_isApplied_50 rfl rfl rfl ?_
            refine wp_lload_n (n := 52) (i := 2) (q := 2) dX3_isApplied_51 rfl rfl rfl ?_
            refine wp_l2i (n := 53) dX3_isApplied_52 rfl ?_
            refine wp_lload (n := 55) (i := 4) (q := 3) dX3_isApplied_53 rfl rfl ?_
            refine wp_l2i (n := 56) dX3_isApplied_55 rfl ?_
            obtain ⟨⟨fs56, o56⟩, h⟩ := h
            refine wp_call (n := 59) (K' := KX3_written) (rc' := rc) (rs' := rs) (aRun_V (K' := KX3_written) (As := [vI i1, vI (Int64.toInt32 l2), vI (Int64.toInt32 l4)]) (rest := []) (b := h0) (c0 := .inr (3, fs56)) dX3_isApplied_56 (aCal_of kf_X3_written (Nat.le_of_ble_eq_true rfl)) q1107 q1109 qs56 ar_X3_written o56 (by decide : 3 < 9) rfl (Nat.le_of_ble_eq_true rfl)) rfl (Nat.le_of_eq (Nat.zero_add _)) (Nat.le_of_eq (Nat.zero_add _)) (fun v56 w56 h => ?_) (fun E56 w56 h => ?_) h
            · obtain ⟨x56, rfl, h⟩ := h
              refine wp_if_lt (n := 62) (t := 66) dX3_isApplied_59 rfl (by decide) (fun c59 => ?_) (fun c59 => ?_)
              · replace h := h.1 c59
                refine wp_iconst (n := 67) (v := 0) dX3_isApplied_66 rfl (by decide) ?_
                exact wp_zreturn dX3_isApplied_67 rfl (by decide) h
              · replace h := h.2 c59
                refine wp_iconst (n := 63) (v := 1) dX3_isApplied_62 rfl (by decide) ?_
                refine wp_goto (t := 67) dX3_isApplied_63 (by decide) ?_
                exact wp_zreturn dX3_isApplied_67 rfl (by decide) h
            · exact h.elim
          · replace h := h.2 (lgc_eq.mp c36)
            refine wp_aload_n (n := 40) (i := 0) (q := 0) dX3_isApplied_39 rfl rfl rfl ?_
            refine wp_iload_n (n := 41) (i := 1) (q := 1) dX3_isApplied_40 rfl rfl rfl ?_
            refine wp_lload_n (n := 42) (i := 2) (q := 2) dX3_isApplied_41 rfl rfl rfl ?_
            refine wp_l2i (n := 43) dX3_isApplied_42 rfl ?_
            obtain ⟨⟨fs43, o43⟩, h⟩ := h
            refine wp_call (n := 46) (K' := KX3_erased) (rc' := rc) (rs' := rs) (aRun_V (K' := KX3_erased) (As := [vI i1, vI (Int64.toInt32 l2)]) (rest := []) (b := h0) (c0 := .inr (3, fs43)) dX3_isApplied_43 (aCal_of kf_X3_erased (Nat.le_of_ble_eq_true rfl)) q1147 q1149 qs65 ar_X3_erased o43 (by decide : 3 < 9) rfl (Nat.le_of_ble_eq_true rfl)) rfl (Nat.le_of_eq (Nat.zero_add _)) (Nat.le_of_eq (Nat.zero_add _)) (fun v43 w43 h => ?_) (fun E43 w43 h => ?_) h
            · obtain ⟨x43, rfl, h⟩ := h
              refine wp_pop (n := 47) dX3_isApplied_46 rfl rfl ?_
              refine wp_iconst (n := 48) (v := 1) dX3_isApplied_47 rfl (by decide) ?_
              exact wp_zreturn dX3_isApplied_48 rfl (by decide) h
            · exact h.elim
        · replace h := h.2 (Classical.byContradiction (fun z => c27 (lgc_le.mpr z)))
          refine wp_iconst (n := 31) (v := 0) dX3_isApplied_30 rfl (by decide) ?_
          exact wp_zreturn dX3_isApplied_31 rfl (by decide) h
set_option maxHeartbeats 1000000 in
theorem sg_X3_apply_0 {h0 : Nat} {i1 : Int32} {i2 : Int32} {i3 : Int32} {rc rs : Nat} {QR : Option aV → aW → Prop} {QX : String → aW → Prop} {w : aW} (h : ct (KX3_isSheet) 0 0 [vI i2] w (fun v1 w1 => ∃ x1 : Int32, v1 = some (vI x1) ∧ (x1 = 0 → QR (some (vI (-2))) w1) ∧ (¬ x1 = 0 → ct (KX3_in) 0 0 [vI i3, vI 0, vI 1] w1 (fun v10 w10 => ∃ x10 : Int32, v10 = some (vI x10) ∧ (¬ x10 = 0 → isO w10 h0 3 ∧ ct (KX3_asked) 0 0 [vR (some h0), vI i1, vI 0] w10 (fun v22 w22 => ∃ x22 : Int32, v22 = some (vI x22) ∧ (x22 = 0 → ∃ x36 : Nat, gf w22 h0 [3] 9 (vR (some x36)) ∧ ∃ x40 : Int32, gI w22 x36 i2 x40 ∧ (x40 = (-1) → ∃ x59 : Nat, gf w22 h0 [3] 9 (vR (some x59)) ∧ ∃ x63 : Int32, gI w22 x59 i2 x63 ∧ (¬ x63 = (-1) → wp (KX3_apply) rc rs QR QX 77 [(0, vR (some h0)), (1, vI i1), (2, vI i2), (3, vI i3), (4, vI x22), (5, vI 0), (6, vI 0)] [] w22) ∧ (x63 = (-1) → QR (some (vI (-11))) w22)) ∧ (¬ x40 = (-1) → ∃ x46 : Nat, gf w22 h0 [3] 9 (vR (some x46)) ∧ ∃ x50 : Int32, gI w22 x46 i2 x50 ∧ (x50 = i3 → ∃ x59 : Nat, gf w22 h0 [3] 9 (vR (some x59)) ∧ ∃ x63 : Int32, gI w22 x59 i2 x63 ∧ (¬ x63 = (-1) → wp (KX3_apply) rc rs QR QX 77 [(0, vR (some h0)), (1, vI i1), (2, vI i2), (3, vI i3), (4, vI x22), (5, vI 0), (6, vI 0)] [] w22) ∧ (x63 = (-1) → QR (some (vI (-11))) w22)) ∧ (¬ x50 = i3 → QR (some (vI (-13))) w22))) ∧ (¬ x22 = 0 → QR (some (vI x22)) w22)) (fun E22 w22 => False)) ∧ (x10 = 0 → QR (some (vI (-2))) w10)) (fun E10 w10 => False))) (fun E1 w1 => False)) : wp (KX3_apply) rc rs QR QX 0 [(0, vR (some h0)), (1, vI i1), (2, vI i2), (3, vI i3)] [] w := by
  refine wp_iload_n (n := 1) (i := 2) (q := 2) dX3_apply_0 rfl rfl rfl ?_
  refine wp_call (n := 4) (K' := KX3_isSheet) (rc' := rc) (rs' := rs) (aRun_S (K' := KX3_isSheet) (As := [vI i2]) (rest := []) dX3_apply_1 (aCal_of kf_X3_isSheet (Nat.le_of_ble_eq_true rfl)) rfl q1309 q1310 ar_X3_isSheet rfl (Nat.le_of_ble_eq_true rfl)) rfl (Nat.le_of_eq (Nat.zero_add _)) (Nat.le_of_eq (Nat.zero_add _)) (fun v1 w1 h => ?_) (fun E1 w1 h => ?_) h
  · obtain ⟨x1, rfl, h⟩ := h
    refine wp_if_eq (n := 7) (t := 16) dX3_apply_4 rfl (by decide) (fun c4 => ?_) (fun c4 => ?_)
    · replace h := h.1 c4
      refine wp_bipush (n := 18) (v := (-2)) dX3_apply_16 rfl (by decide) ?_
      exact wp_ireturn dX3_apply_18 rfl h
    · replace h := h.2 c4
      refine wp_iload_n (n := 8) (i := 3) (q := 3) dX3_apply_7 rfl rfl rfl ?_
      refine wp_iconst (n := 9) (v := 0) dX3_apply_8 rfl (by decide) ?_
      refine wp_iconst (n := 10) (v := 1) dX3_apply_9 rfl (by decide) ?_
      refine wp_call (n := 13) (K' := KX3_in) (rc' := rc) (rs' := rs) (aRun_S (K' := KX3_in) (As := [vI i3, vI 0, vI 1]) (rest := []) dX3_apply_10 (aCal_of kf_X3_in (Nat.le_of_ble_eq_true rfl)) rfl q1077 q1078 ar_X3_in rfl (Nat.le_of_ble_eq_true rfl)) rfl (Nat.le_of_eq (Nat.zero_add _)) (Nat.le_of_eq (Nat.zero_add _)) (fun v10 w10 h => ?_) (fun E10 w10 h => ?_) h
      · obtain ⟨x10, rfl, h⟩ := h
        refine wp_if_ne (n := 16) (t := 19) dX3_apply_13 rfl (by decide) (fun c13 => ?_) (fun c13 => ?_)
        · replace h := h.1 c13
          refine wp_aload_n (n := 20) (i := 0) (q := 0) dX3_apply_19 rfl rfl rfl ?_
          refine wp_iload_n (n := 21) (i := 1) (q := 1) dX3_apply_20 rfl rfl rfl ?_
          refine wp_iconst (n := 22) (v := 0) dX3_apply_21 rfl (by decide) ?_
          obtain ⟨⟨fs22, o22⟩, h⟩ := h
          refine wp_call (n := 25) (K' := KX3_asked) (rc' := rc) (rs' := rs) (aRun_V (K' := KX3_asked) (As := [vI i1, vI 0]) (rest := []) (b := h0) (c0 := .inr (3, fs22)) dX3_apply_22 (aCal_of kf_X3_asked (Nat.le_of_ble_eq_true rfl)) q1092 q1094 qs53 ar_X3_asked o22 (by decide : 3 < 9) rfl (Nat.le_of_ble_eq_true rfl)) rfl (Nat.le_of_eq (Nat.zero_add _)) (Nat.le_of_eq (Nat.zero_add _)) (fun v22 w22 h => ?_) (fun E22 w22 h => ?_) h
          · obtain ⟨x22, rfl, h⟩ := h
            refine wp_istore (n := 27) (i := 4) (ls' := [(4, vI x22), (0, vR (some h0)), (1, vI i1), (2, vI i2), (3, vI i3)]) dX3_apply_25 rfl (Nat.le_of_ble_eq_true rfl) rfl ?_
            refine wp_iload (n := 29) (i := 4) (q := 0) dX3_apply_27 rfl rfl ?_
            refine wp_if_eq (n := 32) (t := 35) dX3_apply_29 rfl (by decide) (fun c29 => ?_) (fun c29 => ?_)
            · replace h := h.1 c29
              refine wp_aload_n (n := 36) (i := 0) (q := 1) dX3_apply_35 rfl rfl rfl ?_
              obtain ⟨x36, g36, h⟩ := h
              refine wp_gf (n := 39) dX3_apply_36 rfl fl_X3_28 g36 ?_
              refine wp_iload_n (n := 40) (i := 2) (q := 3) dX3_apply_39 rfl rfl rfl ?_
              obtain ⟨x40, g40, h⟩ := h
              refine wp_gI (n := 41) dX3_apply_40 rfl g40 ?_
              refine wp_iconst (n := 42) (v := (-1)) dX3_apply_41 rfl (by decide) ?_
              refine wp_icmp_eq (n := 45) (t := 58) dX3_apply_42 rfl (by decide) (fun c42 => ?_) (fun c42 => ?_)
              · replace h := h.1 c42
                refine wp_aload_n (n := 59) (i := 0) (q := 1) dX3_apply_58 rfl rfl rfl ?_
                obtain ⟨x59, g59, h⟩ := h
                refine wp_gf (n := 62) dX3_apply_59 rfl fl_X3_28 g59 ?_
                refine wp_iload_n (n := 63) (i := 2) (q := 3) dX3_apply_62 rfl rfl rfl ?_
                obtain ⟨x63, g63, h⟩ := h
                refine wp_gI (n := 64) dX3_apply_63 rfl g63 ?_
                refine wp_iconst (n := 65) (v := (-1)) dX3_apply_64 rfl (by decide) ?_
                refine wp_icmp_ne (n := 68) (t := 71) dX3_apply_65 rfl (by decide) (fun c65 => ?_) (fun c65 => ?_)
                · replace h := h.1 c65
                  refine wp_iconst (n := 72) (v := 0) dX3_apply_71 rfl (by decide) ?_
                  refine wp_istore (n := 74) (i := 5) (ls' := [(5, vI 0), (4, vI x22), (0, vR (some h0)), (1, vI i1), (2, vI i2), (3, vI i3)]) dX3_apply_72 rfl (Nat.le_of_ble_eq_true rfl) rfl ?_
                  refine wp_iconst (n := 75) (v := 0) dX3_apply_74 rfl (by decide) ?_
                  refine wp_istore (n := 77) (i := 6) (ls' := [(6, vI 0), (5, vI 0), (4, vI x22), (0, vR (some h0)), (1, vI i1), (2, vI i2), (3, vI i3)]) dX3_apply_75 rfl (Nat.le_of_ble_eq_true rfl) rfl ?_
                  exact wp_sub [3, 4, 5, 6, 2, 1, 0] rfl h
                · replace h := h.2 c65
                  refine wp_bipush (n := 70) (v := (-11)) dX3_apply_68 rfl (by decide) ?_
                  exact wp_ireturn dX3_apply_70 rfl h
              · replace h := h.2 c42
                refine wp_aload_n (n := 46) (i := 0) (q := 1) dX3_apply_45 rfl rfl rfl ?_
                obtain ⟨x46, g46, h⟩ := h
                refine wp_gf (n := 49) dX3_apply_46 rfl fl_X3_28 g46 ?_
                refine wp_iload_n (n := 50) (i := 2) (q := 3) dX3_apply_49 rfl rfl rfl ?_
                obtain ⟨x50, g50, h⟩ := h
                refine wp_gI (n := 51) dX3_apply_50 rfl g50 ?_
                refine wp_iload_n (n := 52) (i := 3) (q := 4) dX3_apply_51 rfl rfl rfl ?_
                refine wp_icmp_eq (n := 55) (t := 58) dX3_apply_52 rfl (by decide) (fun c52 => ?_) (fun c52 => ?_)
                · replace h := h.1 c52
                  refine wp_aload_n (n := 59) (i := 0) (q := 1) dX3_apply_58 rfl rfl rfl ?_
                  obtain ⟨x59, g59, h⟩ := h
                  refine wp_gf (n := 62) dX3_apply_59 rfl fl_X3_28 g59 ?_
                  refine wp_iload_n (n := 63) (i := 2) (q := 3) dX3_apply_62 rfl rfl rfl ?_
                  obtain ⟨x63, g63, h⟩ := h
                  refine wp_gI (n := 64) dX3_apply_63 rfl g63 ?_
                  refine wp_iconst (n := 65) (v := (-1)) dX3_apply_64 rfl (by decide) ?_
                  refine wp_icmp_ne (n := 68) (t := 71) dX3_apply_65 rfl (by decide) (fun c65 => ?_) (fun c65 => ?_)
                  · replace h := h.1 c65
                    refine wp_iconst (n := 72) (v := 0) dX3_apply_71 rfl (by decide) ?_
                    refine wp_istore (n := 74) (i := 5) (ls' := [(5, vI 0), (4, vI x22), (0, vR (some h0)), (1, vI i1), (2, vI i2), (3, vI i3)]) dX3_apply_72 rfl (Nat.le_of_ble_eq_true rfl) rfl ?_
                    refine wp_iconst (n := 75) (v := 0) dX3_apply_74 rfl (by decide) ?_
                    refine wp_istore (n := 77) (i := 6) (ls' := [(6, vI 0), (5, vI 0), (4, vI x22), (0, vR (some h0)), (1, vI i1), (2, vI i2), (3, vI i3)]) dX3_apply_75 rfl (Nat.le_of_ble_eq_true rfl) rfl ?_
                    exact wp_sub [3, 4, 5, 6, 2, 1, 0] rfl h
                  · replace h := h.2 c65
                    refine wp_bipush (n := 70) (v := (-11)) dX3_apply_68 rfl (by decide) ?_
                    exact wp_ireturn dX3_apply_70 rfl h
                · replace h := h.2 c52
                  refine wp_bipush (n := 57) (v := (-13)) dX3_apply_55 rfl (by decide) ?_
                  exact wp_ireturn dX3_apply_57 rfl h
            · replace h := h.2 c29
              refine wp_iload (n := 34) (i := 4) (q := 0) dX3_apply_32 rfl rfl ?_
              exact wp_ireturn dX3_apply_34 rfl h
          · exact h.elim
        · replace h := h.2 c13
          refine wp_bipush (n := 18) (v := (-2)) dX3_apply_16 rfl (by decide) ?_
          exact wp_ireturn dX3_apply_18 rfl h
      · exact h.elim
  · exact h.elim
set_option maxHeartbeats 1000000 in
theorem sg_X3_apply_77 {h0 : Nat} {i1 : Int32} {i2 : Int32} {i3 : Int32} {i4 : Int32} {i5 : Int32} {i6 : Int32} {rc rs : Nat} {QR : Option aV → aW → Prop} {QX : String → aW → Prop} {w : aW} (h : ∃ x82 : Nat, gf w h0 [3] 10 (vR (some x82)) ∧ ∃ x86 : Int32, gI w x82 i2 x86 ∧ (x86 ≤ (i6 + 1) → ∃ x141 : Nat, gf w h0 [3] 10 (vR (some x141)) ∧ ∃ x145 : Int32, gI w x141 i2 x145 ∧ (¬ (x145 - x145 / 2 * 2) = 1 → QR (some (vI i5)) w) ∧ ((x145 - x145 / 2 * 2) = 1 → QR (some (vI (-12))) w)) ∧ (¬ x86 ≤ (i6 + 1) → ∃ x95 : Nat, gf w h0 [3] 11 (vR (some x95)) ∧ ∃ x105 : Int64, gL w x95 ((40 * i2) + i6) x105 ∧ ∃ x107 : Nat, gf w h0 [3] 11 (vR (some x107)) ∧ ∃ x119 : Int64, gL w x107 (((40 * i2) + i6) + 1) x119 ∧ isO w h0 3 ∧ ct (KX3_isApplied) 0 0 [vR (some h0), vI i1, vL x105, vL x119] w (fun v120 w120 => ∃ x120 : Int32, v120 = some (vI x120) ∧ (x120 = 0 → wp (KX3_apply) rc rs QR QX 77 [(0, vR (some h0)), (1, vI i1), (2, vI i2), (3, vI i3), (4, vI i4), (5, vI (i5 + 0)), (6, vI (i6 + 2))] [] w120) ∧ (¬ x120 = 0 → wp (KX3_apply) rc rs QR QX 77 [(0, vR (some h0)), (1, vI i1), (2, vI i2), (3, vI i3), (4, vI i4), (5, vI (i5 + 1)), (6, vI (i6 + 2))] [] w120)) (fun E120 w120 => False))) : wp (KX3_apply) rc rs QR QX 77 [(0, vR (some h0)), (1, vI i1), (2, vI i2), (3, vI i3), (4, vI i4), (5, vI i5), (6, vI i6)] [] w := by
  refine wp_iload (n := 79) (i := 6) (q := 6) dX3_apply_77 rfl rfl ?_
  refine wp_iconst (n := 80) (v := 1) dX3_apply_79 rfl (by decide) ?_
  refine wp_iadd (n := 81) dX3_apply_80 rfl ?_
  refine wp_aload_n (n := 82) (i := 0) (q := 0) dX3_apply_81 rfl rfl rfl ?_
  obtain ⟨x82, g82, h⟩ := h
  refine wp_gf (n := 85) dX3_apply_82 rfl fl_X3_31 g82 ?_
  refine wp_iload_n (n := 86) (i := 2) (q := 2) dX3_apply_85 rfl rfl rfl ?_
  obtain ⟨x86, g86, h⟩ := h
  refine wp_gI (n := 87) dX3_apply_86 rfl g86 ?_
  refine wp_icmp_ge (n := 90) (t := 140) dX3_apply_87 rfl (by decide) (fun c87 => ?_) (fun c87 => ?_)
  · replace h := h.1 c87
    refine wp_aload_n (n := 141) (i := 0) (q := 0) dX3_apply_140 rfl rfl rfl ?_
    obtain ⟨x141, g141, h⟩ := h
    refine wp_gf (n := 144) dX3_apply_141 rfl fl_X3_31 g141 ?_
    refine wp_iload_n (n := 145) (i := 2) (q := 2) dX3_apply_144 rfl rfl rfl ?_
    obtain ⟨x145, g145, h⟩ := h
    refine wp_gI (n := 146) dX3_apply_145 rfl g145 ?_
    refine wp_iconst (n := 147) (v := 2) dX3_apply_146 rfl (by decide) ?_
    refine wp_irem (n := 148) dX3_apply_147 rfl (by decide) ?_
    refine wp_iconst (n := 149) (v := 1) dX3_apply_148 rfl (by decide) ?_
    refine wp_icmp_ne (n := 152) (t := 157) dX3_apply_149 rfl (by decide) (fun c149 => ?_) (fun c149 => ?_)
    · replace h := h.1 c149
      refine wp_iload (n := 159) (i := 5) (q := 5) dX3_apply_157 rfl rfl ?_
      exact wp_ireturn dX3_apply_159 rfl h
    · replace h := h.2 c149
      refine wp_bipush (n := 154) (v := (-12)) dX3_apply_152 rfl (by decide) ?_
      refine wp_goto (t := 159) dX3_apply_154 (by decide) ?_
      exact wp_ireturn dX3_apply_159 rfl h
  · replace h := h.2 c87
    refine wp_iload (n := 92) (i := 5) (q := 5) dX3_apply_90 rfl rfl ?_
    refine wp_aload_n (n := 93) (i := 0) (q := 0) dX3_apply_92 rfl rfl rfl ?_
    refine wp_iload_n (n := 94) (i := 1) (q := 1) dX3_apply_93 rfl rfl rfl ?_
    refine wp_aload_n (n := 95) (i := 0) (q := 0) dX3_apply_94 rfl rfl rfl ?_
    obtain ⟨x95, g95, h⟩ := h
    refine wp_gf (n := 98) dX3_apply_95 rfl fl_X3_34 g95 ?_
    refine wp_bipush (n := 100) (v := 40) dX3_apply_98 rfl (by decide) ?_
    refine wp_iload_n (n := 101) (i := 2) (q := 2) dX3_apply_100 rfl rfl rfl ?_
    refine wp_imul (n := 102) dX3_apply_101 rfl ?_
    refine wp_iload (n := 104) (i := 6) (q := 6) dX3_apply_102 rfl rfl ?_
    refine wp_iadd (n := 105) dX3_apply_104 rfl ?_
    obtain ⟨x105, g105, h⟩ := h
    refine wp_gL (n := 106) dX3_apply_105 rfl g105 ?_
    refine wp_aload_n (n := 107) (i := 0) (q := 0) dX3_apply_106 rfl rfl rfl ?_
    obtain ⟨x107, g107, h⟩ := h
    refine wp_gf (n := 110) dX3_apply_107 rfl fl_X3_34 g107 ?_
    refine wp_bipush (n := 112) (v := 40) dX3_apply_110 rfl (by decide) ?_
    refine wp_iload_n (n := 113) (i := 2) (q := 2) dX3_apply_112 rfl rfl rfl ?_
    refine wp_imul (n := 114) dX3_apply_113 rfl ?_
    refine wp_iload (n := 116) (i := 6) (q := 6) dX3_apply_114 rfl rfl ?_
    refine wp_iadd (n := 117) dX3_apply_116 rfl ?_
    refine wp_iconst (n := 118) (v := 1) dX3_apply_117 rfl (by decide) ?_
    refine wp_iadd (n := 119) dX3_apply_118 rfl ?_
    obtain ⟨x119, g119, h⟩ := h
    refine wp_gL (n := 120) dX3_apply_119 rfl g119 ?_
    obtain ⟨⟨fs120, o120⟩, h⟩ := h
    refine wp_call (n := 123) (K' := KX3_isApplied) (rc' := rc) (rs' := rs) (aRun_V (K' := KX3_isApplied) (As := [vI i1, vL x105, vL x119]) (rest := [vI i5]) (b := h0) (c0 := .inr (3, fs120)) dX3_apply_120 (aCal_of kf_X3_isApplied (Nat.le_of_ble_eq_true rfl)) q1332 q1334 qs83 ar_X3_isApplied o120 (by decide : 3 < 9) rfl (Nat.le_of_ble_eq_true rfl)) rfl (Nat.le_of_eq (Nat.zero_add _)) (Nat.le_of_eq (Nat.zero_add _)) (fun v120 w120 h => ?_) (fun E120 w120 h => ?_) h
    · obtain ⟨x120, rfl, h⟩ := h
      refine wp_if_eq (n := 126) (t := 130) dX3_apply_123 rfl (by decide) (fun c123 => ?_) (fun c123 => ?_)
      · replace h := h.1 c123
        refine wp_iconst (n := 131) (v := 0) dX3_apply_130 rfl (by decide) ?_
        refine wp_iadd (n := 132) dX3_apply_131 rfl ?_
        refine wp_istore (n := 134) (i := 5) (ls' := [(5, vI (i5 + 0)), (0, vR (some h0)), (1, vI i1), (2, vI i2), (3, vI i3), (4, vI i4), (6, vI i6)]) dX3_apply_132 rfl (Nat.le_of_ble_eq_true rfl) rfl ?_
        refine wp_iinc (n := 137) (i := 6) (q := 6) (v := i6 + 2) (ls' := [(6, vI (i6 + 2)), (5, vI (i5 + 0)), (0, vR (some h0)), (1, vI i1), (2, vI i2), (3, vI i3), (4, vI i4)]) dX3_apply_134 rfl rfl rfl (Nat.le_of_ble_eq_true rfl) rfl ?_
        refine wp_goto (t := 77) dX3_apply_137 (by decide) ?_
        exact wp_sub [2, 3, 4, 5, 6, 1, 0] rfl h
      · replace h := h.2 c123
        refine wp_iconst (n := 127) (v := 1) dX3_apply_126 rfl (by decide) ?_
        refine wp_goto (t := 131) dX3_apply_127 (by decide) ?_
        refine wp_iadd (n := 132) dX3_apply_131 rfl ?_
        refine wp_istore (n := 134) (i := 5) (ls' := [(5, vI (i5 + 1)), (0, vR (some h0)), (1, vI i1), (2, vI i2), (3, vI i3), (4, vI i4), (6, vI i6)]) dX3_apply_132 rfl (Nat.le_of_ble_eq_true rfl) rfl ?_
        refine wp_iinc (n := 137) (i := 6) (q := 6) (v := i6 + 2) (ls' := [(6, vI (i6 + 2)), (5, vI (i5 + 1)), (0, vR (some h0)), (1, vI i1), (2, vI i2), (3, vI i3), (4, vI i4)]) dX3_apply_134 rfl rfl rfl (Nat.le_of_ble_eq_true rfl) rfl ?_
        refine wp_goto (t := 77) dX3_apply_137 (by decide) ?_
        exact wp_sub [2, 3, 4, 5, 6, 1, 0] rfl h
    · exact h.elim
set_option maxHeartbeats 1000000 in
theorem sg_X3_askedSlots_0 {h0 : Nat} {i1 : Int32} {rc rs : Nat} {QR : Option aV → aW → Prop} {QX : String → aW → Prop} {w : aW} (h : isO w h0 3 ∧ ct (KX3_there) 0 0 [vR (some h0), vI i1] w (fun v2 w2 => ∃ x2 : Int32, v2 = some (vI x2) ∧ (x2 = 0 → isO w2 h0 3 ∧ ct (KX3_hasSlots) 0 0 [vR (some h0), vI i1] w2 (fun v16 w16 => ∃ x16 : Int32, v16 = some (vI x16) ∧ (x16 = 0 → QR (some (vI (-13))) w16) ∧ (¬ x16 = 0 → QR (some (vI 0)) w16)) (fun E16 w16 => False)) ∧ (¬ x2 = 0 → QR (some (vI x2)) w2)) (fun E2 w2 => False)) : wp (KX3_askedSlots) rc rs QR QX 0 [(0, vR (some h0)), (1, vI i1)] [] w := by
  refine wp_aload_n (n := 1) (i := 0) (q := 0) dX3_askedSlots_0 rfl rfl rfl ?_
  refine wp_iload_n (n := 2) (i := 1) (q := 1) dX3_askedSlots_1 rfl rfl rfl ?_
  obtain ⟨⟨fs2, o2⟩, h⟩ := h
  refine wp_call (n := 5) (K' := KX3_there) (rc' := rc) (rs' := rs) (aRun_V (K' := KX3_there) (As := [vI i1]) (rest := []) (b := h0) (c0 := .inr (3, fs2)) dX3_askedSlots_2 (aCal_of kf_X3_there (Nat.le_of_ble_eq_true rfl)) q1096 q1098 qs54 ar_X3_there o2 (by decide : 3 < 9) rfl (Nat.le_of_ble_eq_true rfl)) rfl (Nat.le_of_eq (Nat.zero_add _)) (Nat.le_of_eq (Nat.zero_add _)) (fun v2 w2 h => ?_) (fun E2 w2 h => ?_) h
  · obtain ⟨x2, rfl, h⟩ := h
    refine wp_istore_n (n := 6) (i := 2) (ls' := [(2, vI x2), (0, vR (some h0)), (1, vI i1)]) dX3_askedSlots_5 rfl rfl (Nat.le_of_ble_eq_true rfl) rfl ?_
    refine wp_iload_n (n := 7) (i := 2) (q := 0) dX3_askedSlots_6 rfl rfl rfl ?_
    refine wp_if_eq (n := 10) (t := 14) dX3_askedSlots_7 rfl (by decide) (fun c7 => ?_) (fun c7 => ?_)
    · replace h := h.1 c7
      refine wp_aload_n (n := 15) (i := 0) (q := 1) dX3_askedSlots_14 rfl rfl rfl ?_
      refine wp_iload_n (n := 16) (i := 1) (q := 2) dX3_askedSlots_15 rfl rfl rfl ?_
      obtain ⟨⟨fs16, o16⟩, h⟩ := h
      refine wp_call (n := 19) (K' := KX3_hasSlots) (rc' := rc) (rs' := rs) (aRun_V (K' := KX3_hasSlots) (As := [vI i1]) (rest := []) (b := h0) (c0 := .inr (3, fs16)) dX3_askedSlots_16 (aCal_of kf_X3_hasSlots (Nat.le_of_ble_eq_true rfl)) q1131 q1133 qs62 ar_X3_hasSlots o16 (by decide : 3 < 9) rfl (Nat.le_of_ble_eq_true rfl)) rfl (Nat.le_of_eq (Nat.zero_add _)) (Nat.le_of_eq (Nat.zero_add _)) (fun v16 w16 h => ?_) (fun E16 w16 h => ?_) h
      · obtain ⟨x16, rfl, h⟩ := h
        refine wp_if_eq (n := 22) (t := 26) dX3_askedSlots_19 rfl (by decide) (fun c19 => ?_) (fun c19 => ?_)
        · replace h := h.1 c19
          refine wp_bipush (n := 28) (v := (-13)) dX3_askedSlots_26 rfl (by decide) ?_
          exact wp_ireturn dX3_askedSlots_28 rfl h
        · replace h := h.2 c19
          refine wp_iconst (n := 23) (v := 0) dX3_askedSlots_22 rfl (by decide) ?_
          refine wp_goto (t := 28) dX3_askedSlots_23 (by decide) ?_
          exact wp_ireturn dX3_askedSlots_28 rfl h
      · exact h.elim
    · replace h := h.2 c7
      refine wp_iload_n (n := 11) (i := 2) (q := 0) dX3_askedSlots_10 rfl rfl rfl ?_
      refine wp_goto (t := 28) dX3_askedSlots_11 (by decide) ?_
      exact wp_ireturn dX3_askedSlots_28 rfl h
  · exact h.elim
set_option maxHeartbeats 1000000 in
theorem sg_X3_things_0 {h0 : Nat} {rc rs : Nat} {QR : Option aV → aW → Prop} {QX : String → aW → Prop} {w : aW} (h : wp (KX3_things) rc rs QR QX 4 [(0, vR (some h0)), (1, vI 0), (2, vI 0)] [] w) : wp (KX3_things) rc rs QR QX 0 [(0, vR (some h0))] [] w := by
  refine wp_iconst (n := 1) (v := 0) dX3_things_0 rfl (by decide) ?_
  refine wp_istore_n (n := 2) (i := 1) (ls' := [(1, vI 0), (0, vR (some h0))]) dX3_things_1 rfl rfl (Nat.le_of_ble_eq_true rfl) rfl ?_
  refine wp_iconst (n := 3) (v := 0) dX3_things_2 rfl (by decide) ?_
  refine wp_istore_n (n := 4) (i := 2) (ls' := [(2, vI 0), (1, vI 0), (0, vR (some h0))]) dX3_things_3 rfl rfl (Nat.le_of_ble_eq_true rfl) rfl ?_
  exact wp_sub [2, 1, 0] rfl h
set_option maxHeartbeats 1000000 in
theorem sg_X3_things_4 {h0 : Nat} {i1 : Int32} {i2 : Int32} {rc rs : Nat} {QR : Option aV → aW → Prop} {QX : String → aW → Prop} {w : aW} (h : (20 ≤ i2 → QR (some (vI i1)) w) ∧ (¬ 20 ≤ i2 → isO w h0 3 ∧ ct (KX3_isThing) 0 0 [vR (some h0), vI i2] w (fun v13 w13 => ∃ x13 : Int32, v13 = some (vI x13) ∧ (x13 = 0 → wp (KX3_things) rc rs QR QX 4 [(0, vR (some h0)), (1, vI (i1 + 0)), (2, vI (i2 + 1))] [] w13) ∧ (¬ x13 = 0 → wp (KX3_things) rc rs QR QX 4 [(0, vR (some h0)), (1, vI (i1 + 1)), (2, vI (i2 + 1))] [] w13)) (fun E13 w13 => False))) : wp (KX3_things) rc rs QR QX 4 [(0, vR (some h0)), (1, vI i1), (2, vI i2)] [] w := by
  refine wp_iload_n (n := 5) (i := 2) (q := 2) dX3_things_4 rfl rfl rfl ?_
  refine wp_bipush (n := 7) (v := 20) dX3_things_5 rfl (by decide) ?_
  refine wp_icmp_ge (n := 10) (t := 32) dX3_things_7 rfl (by decide) (fun c7 => ?_) (fun c7 => ?_)
  · replace h := h.1 c7
    refine wp_iload_n (n := 33) (i := 1) (q := 1) dX3_things_32 rfl rfl rfl ?_
    exact wp_ireturn dX3_things_33 rfl h
  · replace h := h.2 c7
    refine wp_iload_n (n := 11) (i := 1) (q := 1) dX3_things_10 rfl rfl rfl ?_
    refine wp_aload_n (n := 12) (i := 0) (q := 0) dX3_things_11 rfl rfl rfl ?_
    refine wp_iload_n (n := 13) (i := 2) (q := 2) dX3_things_12 rfl rfl rfl ?_
    obtain ⟨⟨fs13, o13⟩, h⟩ := h
    refine wp_call (n := 16) (K' := KX3_isThing) (rc' := rc) (rs' := rs) (aRun_V (K' := KX3_isThing) (As := [vI i2]) (rest := [vI i1]) (b := h0) (c0 := .inr (3, fs13)) dX3_things_13 (aCal_of kf_X3_isThing (Nat.le_of_ble_eq_true rfl)) q1100 q1102 qs55 ar_X3_isThing o13 (by decide : 3 < 9) rfl (Nat.le_of_ble_eq_true rfl)) rfl (Nat.le_of_eq (Nat.zero_add _)) (Nat.le_of_eq (Nat.zero_add _)) (fun v13 w13 h => ?_) (fun E13 w13 h => ?_) h
    · obtain ⟨x13, rfl, h⟩ := h
      refine wp_if_eq (n := 19) (t := 23) dX3_things_16 rfl (by decide) (fun c16 => ?_) (fun c16 => ?_)
      · replace h := h.1 c16
        refine wp_iconst (n := 24) (v := 0) dX3_things_23 rfl (by decide) ?_
        refine wp_iadd (n := 25) dX3_things_24 rfl ?_
        refine wp_istore_n (n := 26) (i := 1) (ls' := [(1, vI (i1 + 0)), (0, vR (some h0)), (2, vI i2)]) dX3_things_25 rfl rfl (Nat.le_of_ble_eq_true rfl) rfl ?_
        refine wp_iinc (n := 29) (i := 2) (q := 2) (v := i2 + 1) (ls' := [(2, vI (i2 + 1)), (1, vI (i1 + 0)), (0, vR (some h0))]) dX3_things_26 rfl rfl rfl (Nat.le_of_ble_eq_true rfl) rfl ?_
        refine wp_goto (t := 4) dX3_things_29 (by decide) ?_
        exact wp_sub [2, 1, 0] rfl h
      · replace h := h.2 c16
        refine wp_iconst (n := 20) (v := 1) dX3_things_19 rfl (by decide) ?_
        refine wp_goto (t := 24) dX3_things_20 (by decide) ?_
        refine wp_iadd (n := 25) dX3_things_24 rfl ?_
        refine wp_istore_n (n := 26) (i := 1) (ls' := [(1, vI (i1 + 1)), (0, vR (some h0)), (2, vI i2)]) dX3_things_25 rfl rfl (Nat.le_of_ble_eq_true rfl) rfl ?_
        refine wp_iinc (n := 29) (i := 2) (q := 2) (v := i2 + 1) (ls' := [(2, vI (i2 + 1)), (1, vI (i1 + 1)), (0, vR (some h0))]) dX3_things_26 rfl rfl rfl (Nat.le_of_ble_eq_true rfl) rfl ?_
        refine wp_goto (t := 4) dX3_things_29 (by decide) ?_
        exact wp_sub [2, 1, 0] rfl h
    · exact h.elim
set_option maxHeartbeats 1000000 in
theorem sg_X3_back_0 {h0 : Nat} {rc rs : Nat} {QR : Option aV → aW → Prop} {QX : String → aW → Prop} {w : aW} (h : ∃ x1 : Int32, gf w h0 [3] 4 (vI x1) ∧ (¬ x1 = 0 → wp (KX3_back) rc rs QR QX 12 [(0, vR (some h0)), (1, vI 0)] [] w) ∧ (x1 = 0 → QR (some (vI (-3))) w)) : wp (KX3_back) rc rs QR QX 0 [(0, vR (some h0))] [] w := by
  refine wp_aload_n (n := 1) (i := 0) (q := 0) dX3_back_0 rfl rfl rfl ?_
  obtain ⟨x1, g1, h⟩ := h
  refine wp_gf (n := 4) dX3_back_1 rfl fl_X3_213 g1 ?_
  refine wp_if_ne (n := 7) (t := 10) dX3_back_4 rfl (by decide) (fun c4 => ?_) (fun c4 => ?_)
  · replace h := h.1 c4
    refine wp_iconst (n := 11) (v := 0) dX3_back_10 rfl (by decide) ?_
    refine wp_istore_n (n := 12) (i := 1) (ls' := [(1, vI 0), (0, vR (some h0))]) dX3_back_11 rfl rfl (Nat.le_of_ble_eq_true rfl) rfl ?_
    exact wp_sub [1, 0] rfl h
  · replace h := h.2 c4
    refine wp_bipush (n := 9) (v := (-3)) dX3_back_7 rfl (by decide) ?_
    exact wp_ireturn dX3_back_9 rfl h
set_option maxHeartbeats 1000000 in
theorem sg_X3_back_12 {h0 : Nat} {i1 : Int32} {rc rs : Nat} {QR : Option aV → aW → Prop} {QX : String → aW → Prop} {w : aW} (h : (554 ≤ i1 → isO w h0 3 ∧ ct (KX3_things) 0 0 [vR (some h0)] w (fun v38 w38 => ∃ x38 : Int32, v38 = some (vI x38) ∧ QR (some (vI x38)) w38) (fun E38 w38 => False)) ∧ (¬ 554 ≤ i1 → ∃ x20 : Nat, gf w h0 [3] 1 (vR (some x20)) ∧ ∃ x25 : Nat, gf w h0 [3] 2 (vR (some x25)) ∧ ∃ x29 : Int32, gI w x25 i1 x29 ∧ pI w x20 i1 x29 (fun w30 => wp (KX3_back) rc rs QR QX 12 [(0, vR (some h0)), (1, vI (i1 + 1))] [] w30))) : wp (KX3_back) rc rs QR QX 12 [(0, vR (some h0)), (1, vI i1)] [] w := by
  refine wp_iload_n (n := 13) (i := 1) (q := 1) dX3_back_12 rfl rfl rfl ?_
  refine wp_sipush (n := 16) (v := 554) dX3_back_13 rfl (by decide) ?_
  refine wp_icmp_ge (n := 19) (t := 37) dX3_back_16 rfl (by decide) (fun c16 => ?_) (fun c16 => ?_)
  · replace h := h.1 c16
    refine wp_aload_n (n := 38) (i := 0) (q := 0) dX3_back_37 rfl rfl rfl ?_
    obtain ⟨⟨fs38, o38⟩, h⟩ := h
    refine wp_call (n := 41) (K' := KX3_things) (rc' := rc) (rs' := rs) (aRun_V (K' := KX3_things) (As := []) (rest := []) (b := h0) (c0 := .inr (3, fs38)) dX3_back_38 (aCal_of kf_X3_things (Nat.le_of_ble_eq_true rfl)) q1359 q1361 qs86 ar_X3_things o38 (by decide : 3 < 9) rfl (Nat.le_of_ble_eq_true rfl)) rfl (Nat.le_of_eq (Nat.zero_add _)) (Nat.le_of_eq (Nat.zero_add _)) (fun v38 w38 h => ?_) (fun E38 w38 h => ?_) h
    · obtain ⟨x38, rfl, h⟩ := h
      exact wp_ireturn dX3_back_41 rfl h
    · exact h.elim
  · replace h := h.2 c16
    refine wp_aload_n (n := 20) (i := 0) (q := 0) dX3_back_19 rfl rfl rfl ?_
    obtain ⟨x20, g20, h⟩ := h
    refine wp_gf (n := 23) dX3_back_20 rfl fl_X3_7 g20 ?_
    refine wp_iload_n (n := 24) (i := 1) (q := 1) dX3_back_23 rfl rfl rfl ?_
    refine wp_aload_n (n := 25) (i := 0) (q := 0) dX3_back_24 rfl rfl rfl ?_
    obtain ⟨x25, g25, h⟩ := h
    refine wp_gf (n := 28) dX3_back_25 rfl fl_X3_13 g25 ?_
    refine wp_iload_n (n := 29) (i := 1) (q := 1) dX3_back_28 rfl rfl rfl ?_
    obtain ⟨x29, g29, h⟩ := h
    refine wp_gI (n := 30) dX3_back_29 rfl g29 ?_
    refine wp_pI (n := 31) dX3_back_30 rfl (pI_mono h (fun w30 h => ?_))
    refine wp_iinc (n := 34) (i := 1) (q := 1) (v := i1 + 1) (ls' := [(1, vI (i1 + 1)), (0, vR (some h0))]) dX3_back_31 rfl rfl rfl (Nat.le_of_ble_eq_true rfl) rfl ?_
    refine wp_goto (t := 12) dX3_back_34 (by decide) ?_
    exact wp_sub [1, 0] rfl h
set_option maxHeartbeats 1000000 in
theorem sg_X3_block_0 {h0 : Nat} {i1 : Int32} {i2 : Int32} {rc rs : Nat} {QR : Option aV → aW → Prop} {QX : String → aW → Prop} {w : aW} (h : ct (KX3_in) 0 0 [vI i2, vI 0, vI 2] w (fun v3 w3 => ∃ x3 : Int32, v3 = some (vI x3) ∧ (¬ x3 = 0 → ct (KX3_in) 0 0 [vI i1, vI 0, vI 95] w3 (fun v16 w16 => ∃ x16 : Int32, v16 = some (vI x16) ∧ (¬ x16 = 0 → ∃ x26 : Nat, gf w16 h0 [3] 1 (vR (some x26)) ∧ ∃ x34 : Int32, gI w16 x26 (362 + i1) x34 ∧ (¬ x34 = 0 → isO w16 h0 3 ∧ ct (KX3_counts) 0 0 [vR (some h0)] w16 (fun v42 w42 => v42 = none ∧ (¬ i2 = 0 → (¬ i2 = 1 → ∃ x81 : Nat, gf w42 h0 [3] 5 (vR (some x81)) ∧ ∃ x85 : Int32, gI w42 x81 i1 x85 ∧ QR (some (vI x85)) w42) ∧ (i2 = 1 → ∃ x68 : Nat, gf w42 h0 [3] 1 (vR (some x68)) ∧ ∃ x76 : Int32, gI w42 x68 (458 + i1) x76 ∧ QR (some (vI x76)) w42)) ∧ (i2 = 0 → ∃ x50 : Nat, gf w42 h0 [3] 1 (vR (some x50)) ∧ ∃ x58 : Int32, gI w42 x50 (362 + i1) x58 ∧ QR (some (vI x58)) w42)) (fun E42 w42 => False)) ∧ (x34 = 0 → QR (some (vI (-11))) w16)) ∧ (x16 = 0 → QR (some (vI (-12))) w16)) (fun E16 w16 => False)) ∧ (x3 = 0 → QR (some (vI (-2))) w3)) (fun E3 w3 => False)) : wp (KX3_block) rc rs QR QX 0 [(0, vR (some h0)), (1, vI i1), (2, vI i2)] [] w := by
  refine wp_iload_n (n := 1) (i := 2) (q := 2) dX3_block_0 rfl rfl rfl ?_
  refine wp_iconst (n := 2) (v := 0) dX3_block_1 rfl (by decide) ?_
  refine wp_iconst (n := 3) (v := 2) dX3_block_2 rfl (by decide) ?_
  refine wp_call (n := 6) (K' := KX3_in) (rc' := rc) (rs' := rs) (aRun_S (K' := KX3_in) (As := [vI i2, vI 0, vI 2]) (rest := []) dX3_block_3 (aCal_of kf_X3_in (Nat.le_of_ble_eq_true rfl)) rfl q1077 q1078 ar_X3_in rfl (Nat.le_of_ble_eq_true rfl)) rfl (Nat.le_of_eq (Nat.zero_add _)) (Nat.le_of_eq (Nat.zero_add _)) (fun v3 w3 h => ?_) (fun E3 w3 h => ?_) h
  · obtain ⟨x3, rfl, h⟩ := h
    refine wp_if_ne (n := 9) (t := 12) dX3_block_6 rfl (by decide) (fun c6 => ?_) (fun c6 => ?_)
    · replace h := h.1 c6
      refine wp_iload_n (n := 13) (i := 1) (q := 1) dX3_block_12 rfl rfl rfl ?_
      refine wp_iconst (n := 14) (v := 0) dX3_block_13 rfl (by decide) ?_
      refine wp_bipush (n := 16) (v := 95) dX3_block_14 rfl (by decide) ?_
      refine wp_call (n := 19) (K' := KX3_in) (rc' := rc) (rs' := rs) (aRun_S (K' := KX3_in) (As := [vI i1, vI 0, vI 95]) (rest := []) dX3_block_16 (aCal_of kf_X3_in (Nat.le_of_ble_eq_true rfl)) rfl q1077 q1078 ar_X3_in rfl (Nat.le_of_ble_eq_true rfl)) rfl (Nat.le_of_eq (Nat.zero_add _)) (Nat.le_of_eq (Nat.zero_add _)) (fun v16 w16 h => ?_) (fun E16 w16 h => ?_) h
      · obtain ⟨x16, rfl, h⟩ := h
        refine wp_if_ne (n := 22) (t := 25) dX3_block_19 rfl (by decide) (fun c19 => ?_) (fun c19 => ?_)
        · replace h := h.1 c19
          refine wp_aload_n (n := 26) (i := 0) (q := 0) dX3_block_25 rfl rfl rfl ?_
          obtain ⟨x26, g26, h⟩ := h
          refine wp_gf (n := 29) dX3_block_26 rfl fl_X3_7 g26 ?_
          refine wp_sipush (n := 32) (v := 362) dX3_block_29 rfl (by decide) ?_
          refine wp_iload_n (n := 33) (i := 1) (q := 1) dX3_block_32 rfl rfl rfl ?_
          refine wp_iadd (n := 34) dX3_block_33 rfl ?_
          obtain ⟨x34, g34, h⟩ := h
          refine wp_gI (n := 35) dX3_block_34 rfl g34 ?_
          refine wp_if_ne (n := 38) (t := 41) dX3_block_35 rfl (by decide) (fun c35 => ?_) (fun c35 => ?_)
          · replace h := h.1 c35
            refine wp_aload_n (n := 42) (i := 0) (q := 0) dX3_block_41 rfl rfl rfl ?_
            obtain ⟨⟨fs42, o42⟩, h⟩ := h
            refine wp_call (n := 45) (K' := KX3_counts) (rc' := rc) (rs' := rs) (aRun_V (K' := KX3_counts) (As := []) (rest := []) (b := h0) (c0 := .inr (3, fs42)) dX3_block_42 (aCal_of kf_X3_counts (Nat.le_of_ble_eq_true rfl)) q1127 q1129 qs61 ar_X3_counts o42 (by decide : 3 < 9) rfl (Nat.le_of_ble_eq_true rfl)) rfl (Nat.le_of_eq (Nat.zero_add _)) (Nat.le_of_eq (Nat.zero_add _)) (fun v42 w42 h => ?_) (fun E42 w42 h => ?_) h
            · obtain ⟨rfl, h⟩ := h
              refine wp_iload_n (n := 46) (i := 2) (q := 2) dX3_block_45 rfl rfl rfl ?_
              refine wp_if_ne (n := 49) (t := 62) dX3_block_46 rfl (by decide) (fun c46 => ?_) (fun c46 => ?_)
              · replace h := h.1 c46
                refine wp_iload_n (n := 63) (i := 2) (q := 2) dX3_block_62 rfl rfl rfl ?_
                refine wp_iconst (n := 64) (v := 1) dX3_block_63 rfl (by decide) ?_
                refine wp_icmp_ne (n := 67) (t := 80) dX3_block_64 rfl (by decide) (fun c64 => ?_) (fun c64 => ?_)
                · replace h := h.1 c64
                  refine wp_aload_n (n := 81) (i := 0) (q := 0) dX3_block_80 rfl rfl rfl ?_
                  obtain ⟨x81, g81, h⟩ := h
                  refine wp_gf (n := 84) dX3_block_81 rfl fl_X3_19 g81 ?_
                  refine wp_iload_n (n := 85) (i := 1) (q := 1) dX3_block_84 rfl rfl rfl ?_
                  obtain ⟨x85, g85, h⟩ := h
                  refine wp_gI (n := 86) dX3_block_85 rfl g85 ?_
                  exact wp_ireturn dX3_block_86 rfl h
                · replace h := h.2 c64
                  refine wp_aload_n (n := 68) (i := 0) (q := 0) dX3_block_67 rfl rfl rfl ?_
                  obtain ⟨x68, g68, h⟩ := h
                  refine wp_gf (n := 71) dX3_block_68 rfl fl_X3_7 g68 ?_
                  refine wp_sipush (n := 74) (v := 458) dX3_block_71 rfl (by decide) ?_
                  refine wp_iload_n (n := 75) (i := 1) (q := 1) dX3_block_74 rfl rfl rfl ?_
                  refine wp_iadd (n := 76) dX3_block_75 rfl ?_
                  obtain ⟨x76, g76, h⟩ := h
                  refine wp_gI (n := 77) dX3_block_76 rfl g76 ?_
                  refine wp_goto (t := 86) dX3_block_77 (by decide) ?_
                  exact wp_ireturn dX3_block_86 rfl h
              · replace h := h.2 c46
                refine wp_aload_n (n := 50) (i := 0) (q := 0) dX3_block_49 rfl rfl rfl ?_
                obtain ⟨x50, g50, h⟩ := h
                refine wp_gf (n := 53) dX3_block_50 rfl fl_X3_7 g50 ?_
                refine wp_sipush (n := 56) (v := 362) dX3_block_53 rfl (by decide) ?_
                refine wp_iload_n (n := 57) (i := 1) (q := 1) dX3_block_56 rfl rfl rfl ?_
                refine wp_iadd (n := 58) dX3_block_57 rfl ?_
                obtain ⟨x58, g58, h⟩ := h
                refine wp_gI (n := 59) dX3_block_58 rfl g58 ?_
                refine wp_goto (t := 86) dX3_block_59 (by decide) ?_
                exact wp_ireturn dX3_block_86 rfl h
            · exact h.elim
          · replace h := h.2 c35
            refine wp_bipush (n := 40) (v := (-11)) dX3_block_38 rfl (by decide) ?_
            exact wp_ireturn dX3_block_40 rfl h
        · replace h := h.2 c19
          refine wp_bipush (n := 24) (v := (-12)) dX3_block_22 rfl (by decide) ?_
          exact wp_ireturn dX3_block_24 rfl h
      · exact h.elim
    · replace h := h.2 c6
      refine wp_bipush (n := 11) (v := (-2)) dX3_block_9 rfl (by decide) ?_
      exact wp_ireturn dX3_block_11 rfl h
  · exact h.elim
set_option maxHeartbeats 1000000 in
theorem sg_X3_blocks_0 {h0 : Nat} {rc rs : Nat} {QR : Option aV → aW → Prop} {QX : String → aW → Prop} {w : aW} (h : wp (KX3_blocks) rc rs QR QX 4 [(0, vR (some h0)), (1, vI 0), (2, vI 0)] [] w) : wp (KX3_blocks) rc rs QR QX 0 [(0, vR (some h0))] [] w := by
  refine wp_iconst (n := 1) (v := 0) dX3_blocks_0 rfl (by decide) ?_
  refine wp_istore_n (n := 2) (i := 1) (ls' := [(1, vI 0), (0, vR (some h0))]) dX3_blocks_1 rfl rfl (Nat.le_of_ble_eq_true rfl) rfl ?_
  refine wp_iconst (n := 3) (v := 0) dX3_blocks_2 rfl (by decide) ?_
  refine wp_istore_n (n := 4) (i := 2) (ls' := [(2, vI 0), (1, vI 0), (0, vR (some h0))]) dX3_blocks_3 rfl rfl (Nat.le_of_ble_eq_true rfl) rfl ?_
  exact wp_sub [2, 1, 0] rfl h
set_option maxHeartbeats 1000000 in
theorem sg_X3_blocks_4 {h0 : Nat} {i1 : Int32} {i2 : Int32} {rc rs : Nat} {QR : Option aV → aW → Prop} {QX : String → aW → Prop} {w : aW} (h : (96 ≤ i2 → QR (some (vI i1)) w) ∧ (¬ 96 ≤ i2 → ∃ x12 : Nat, gf w h0 [3] 1 (vR (some x12)) ∧ ∃ x20 : Int32, gI w x12 (362 + i2) x20 ∧ (x20 ≤ 0 → wp (KX3_blocks) rc rs QR QX 4 [(0, vR (some h0)), (1, vI (i1 + 0)), (2, vI (i2 + 1))] [] w) ∧ (¬ x20 ≤ 0 → wp (KX3_blocks) rc rs QR QX 4 [(0, vR (some h0)), (1, vI (i1 + 1)), (2, vI (i2 + 1))] [] w))) : wp (KX3_blocks) rc rs QR QX 4 [(0, vR (some h0)), (1, vI i1), (2, vI i2)] [] w := by
  refine wp_iload_n (n := 5) (i := 2) (q := 2) dX3_blocks_4 rfl rfl rfl ?_
  refine wp_bipush (n := 7) (v := 96) dX3_blocks_5 rfl (by decide) ?_
  refine wp_icmp_ge (n := 10) (t := 37) dX3_blocks_7 rfl (by decide) (fun c7 => ?_) (fun c7 => ?_)
  · replace h := h.1 c7
    refine wp_iload_n (n := 38) (i := 1) (q := 1) dX3_blocks_37 rfl rfl rfl ?_
    exact wp_ireturn dX3_blocks_38 rfl h
  · replace h := h.2 c7
    refine wp_iload_n (n := 11) (i := 1) (q := 1) dX3_blocks_10 rfl rfl rfl ?_
    refine wp_aload_n (n := 12) (i := 0) (q := 0) dX3_blocks_11 rfl rfl rfl ?_
    obtain ⟨x12, g12, h⟩ := h
    refine wp_gf (n := 15) dX3_blocks_12 rfl fl_X3_7 g12 ?_
    refine wp_sipush (n := 18) (v := 362) dX3_blocks_15 rfl (by decide) ?_
    refine wp_iload_n (n := 19) (i := 2) (q := 2) dX3_blocks_18 rfl rfl rfl ?_
    refine wp_iadd (n := 20) dX3_blocks_19 rfl ?_
    obtain ⟨x20, g20, h⟩ := h
    refine wp_gI (n := 21) dX3_blocks_20 rfl g20 ?_
    refine wp_if_le (n := 24) (t := 28) dX3_blocks_21 rfl (by decide) (fun c21 => ?_) (fun c21 => ?_)
    · replace h := h.1 c21
      refine wp_iconst (n := 29) (v := 0) dX3_blocks_28 rfl (by decide) ?_
      refine wp_iadd (n := 30) dX3_blocks_29 rfl ?_
      refine wp_istore_n (n := 31) (i := 1) (ls' := [(1, vI (i1 + 0)), (0, vR (some h0)), (2, vI i2)]) dX3_blocks_30 rfl rfl (Nat.le_of_ble_eq_true rfl) rfl ?_
      refine wp_iinc (n := 34) (i := 2) (q := 2) (v := i2 + 1) (ls' := [(2, vI (i2 + 1)), (1, vI (i1 + 0)), (0, vR (some h0))]) dX3_blocks_31 rfl rfl rfl (Nat.le_of_ble_eq_true rfl) rfl ?_
      refine wp_goto (t := 4) dX3_blocks_34 (by decide) ?_
      exact wp_sub [2, 1, 0] rfl h
    · replace h := h.2 c21
      refine wp_iconst (n := 25) (v := 1) dX3_blocks_24 rfl (by decide) ?_
      refine wp_goto (t := 29) dX3_blocks_25 (by decide) ?_
      refine wp_iadd (n := 30) dX3_blocks_29 rfl ?_
      refine wp_istore_n (n := 31) (i := 1) (ls' := [(1, vI (i1 + 1)), (0, vR (some h0)), (2, vI i2)]) dX3_blocks_30 rfl rfl (Nat.le_of_ble_eq_true rfl) rfl ?_
      refine wp_iinc (n := 34) (i := 2) (q := 2) (v := i2 + 1) (ls' := [(2, vI (i2 + 1)), (1, vI (i1 + 1)), (0, vR (some h0))]) dX3_blocks_31 rfl rfl rfl (Nat.le_of_ble_eq_true rfl) rfl ?_
      refine wp_goto (t := 4) dX3_blocks_34 (by decide) ?_
      exact wp_sub [2, 1, 0] rfl h
set_option maxHeartbeats 1000000 in
theorem sg_X3_cell_0 {h0 : Nat} {i1 : Int32} {i2 : Int32} {l3 : Int64} {rc rs : Nat} {QR : Option aV → aW → Prop} {QX : String → aW → Prop} {w : aW} (h : ct (KX3_isSheet) 0 0 [vI i1] w (fun v1 w1 => ∃ x1 : Int32, v1 = some (vI x1) ∧ (¬ x1 = 0 → ∃ x11 : Nat, gf w1 h0 [3] 9 (vR (some x11)) ∧ ∃ x15 : Int32, gI w1 x11 i1 x15 ∧ (¬ x15 = (-1) → ∃ x26 : Nat, gf w1 h0 [3] 10 (vR (some x26)) ∧ ∃ x30 : Int32, gI w1 x26 i1 x30 ∧ ct (KX3_in) 0 0 [vI i2, vI 0, vI (x30 - 1)] w1 (fun v33 w33 => ∃ x33 : Int32, v33 = some (vI x33) ∧ (¬ x33 = 0 → ∃ x43 : Nat, gf w33 h0 [3] 11 (vR (some x43)) ∧ ∃ x53 : Nat, gf w33 h0 [3] 9 (vR (some x53)) ∧ ∃ x57 : Int32, gI w33 x53 i1 x57 ∧ (¬ x57 = 0 → pL w33 x43 ((40 * i1) + i2) l3 (fun w68 => QR (some (vI 1)) w68)) ∧ (x57 = 0 → pL w33 x43 ((40 * i1) + i2) (Int32.toInt64 (Int64.toInt32 l3)) (fun w68 => QR (some (vI 1)) w68))) ∧ (x33 = 0 → QR (some (vI (-12))) w33)) (fun E33 w33 => False)) ∧ (x15 = (-1) → QR (some (vI (-11))) w1)) ∧ (x1 = 0 → QR (some (vI (-2))) w1)) (fun E1 w1 => False)) : wp (KX3_cell) rc rs QR QX 0 [(0, vR (some h0)), (1, vI i1), (2, vI i2), (3, vL l3)] [] w := by
  refine wp_iload_n (n := 1) (i := 1) (q := 1) dX3_cell_0 rfl rfl rfl ?_
  refine wp_call (n := 4) (K' := KX3_isSheet) (rc' := rc) (rs' := rs) (aRun_S (K' := KX3_isSheet) (As := [vI i1]) (rest := []) dX3_cell_1 (aCal_of kf_X3_isSheet (Nat.le_of_ble_eq_true rfl)) rfl q1309 q1310 ar_X3_isSheet rfl (Nat.le_of_ble_eq_true rfl)) rfl (Nat.le_of_eq (Nat.zero_add _)) (Nat.le_of_eq (Nat.zero_add _)) (fun v1 w1 h => ?_) (fun E1 w1 h => ?_) h
  · obtain ⟨x1, rfl, h⟩ := h
    refine wp_if_ne (n := 7) (t := 10) dX3_cell_4 rfl (by decide) (fun c4 => ?_) (fun c4 => ?_)
    · replace h := h.1 c4
      refine wp_aload_n (n := 11) (i := 0) (q := 0) dX3_cell_10 rfl rfl rfl ?_
      obtain ⟨x11, g11, h⟩ := h
      refine wp_gf (n := 14) dX3_cell_11 rfl fl_X3_28 g11 ?_
      refine wp_iload_n (n := 15) (i := 1) (q := 1) dX3_cell_14 rfl rfl rfl ?_
      obtain ⟨x15, g15, h⟩ := h
      refine wp_gI (n := 16) dX3_cell_15 rfl g15 ?_
      refine wp_iconst (n := 17) (v := (-1)) dX3_cell_16 rfl (by decide) ?_
      refine wp_icmp_ne (n := 20) (t := 23) dX3_cell_17 rfl (by decide) (fun c17 => ?_) (fun c17 => ?_)
      · replace h := h.1 c17
        refine wp_iload_n (n := 24) (i := 2) (q := 2) dX3_cell_23 rfl rfl rfl ?_
        refine wp_iconst (n := 25) (v := 0) dX3_cell_24 rfl (by decide) ?_
        refine wp_aload_n (n := 26) (i := 0) (q := 0) dX3_cell_25 rfl rfl rfl ?_
        obtain ⟨x26, g26, h⟩ := h
        refine wp_gf (n := 29) dX3_cell_26 rfl fl_X3_31 g26 ?_
        refine wp_iload_n (n := 30) (i := 1) (q := 1) dX3_cell_29 rfl rfl rfl ?_
        obtain ⟨x30, g30, h⟩ := h
        refine wp_gI (n := 31) dX3_cell_30 rfl g30 ?_
        refine wp_iconst (n := 32) (v := 1) dX3_cell_31 rfl (by decide) ?_
        refine wp_isub (n := 33) dX3_cell_32 rfl ?_
        refine wp_call (n := 36) (K' := KX3_in) (rc' := rc) (rs' := rs) (aRun_S (K' := KX3_in) (As := [vI i2, vI 0, vI (x30 - 1)]) (rest := []) dX3_cell_33 (aCal_of kf_X3_in (Nat.le_of_ble_eq_true rfl)) rfl q1077 q1078 ar_X3_in rfl (Nat.le_of_ble_eq_true rfl)) rfl (Nat.le_of_eq (Nat.zero_add _)) (Nat.le_of_eq (Nat.zero_add _)) (fun v33 w33 h => ?_) (fun E33 w33 h => ?_) h
        · obtain ⟨x33, rfl, h⟩ := h
          refine wp_if_ne (n := 39) (t := 42) dX3_cell_36 rfl (by decide) (fun c36 => ?_) (fun c36 => ?_)
          · replace h := h.1 c36
            refine wp_aload_n (n := 43) (i := 0) (q := 0) dX3_cell_42 rfl rfl rfl ?_
            obtain ⟨x43, g43, h⟩ := h
            refine wp_gf (n := 46) dX3_cell_43 rfl fl_X3_34 g43 ?_
            refine wp_bipush (n := 48) (v := 40) dX3_cell_46 rfl (by decide) ?_
            refine wp_iload_n (n := 49) (i := 1) (q := 1) dX3_cell_48 rfl rfl rfl ?_
            refine wp_imul (n := 50) dX3_cell_49 rfl ?_
            refine wp_iload_n (n := 51) (i := 2) (q := 2) dX3_cell_50 rfl rfl rfl ?_
            refine wp_iadd (n := 52) dX3_cell_51 rfl ?_
            refine wp_aload_n (n := 53) (i := 0) (q := 0) dX3_cell_52 rfl rfl rfl ?_
            obtain ⟨x53, g53, h⟩ := h
            refine wp_gf (n := 56) dX3_cell_53 rfl fl_X3_28 g53 ?_
            refine wp_iload_n (n := 57) (i := 1) (q := 1) dX3_cell_56 rfl rfl rfl ?_
            obtain ⟨x57, g57, h⟩ := h
            refine wp_gI (n := 58) dX3_cell_57 rfl g57 ?_
            refine wp_if_ne (n := 61) (t := 67) dX3_cell_58 rfl (by decide) (fun c58 => ?_) (fun c58 => ?_)
            · replace h := h.1 c58
              refine wp_lload_n (n := 68) (i := 3) (q := 3) dX3_cell_67 rfl rfl rfl ?_
              refine wp_pL (n := 69) dX3_cell_68 rfl (pL_mono h (fun w68 h => ?_))
              refine wp_iconst (n := 70) (v := 1) dX3_cell_69 rfl (by decide) ?_
              exact wp_ireturn dX3_cell_70 rfl h
            · replace h := h.2 c58
              refine wp_lload_n (n := 62) (i := 3) (q := 3) dX3_cell_61 rfl rfl rfl ?_
              refine wp_l2i (n := 63) dX3_cell_62 rfl ?_
              refine wp_i2l (n := 64) dX3_cell_63 rfl ?_
              refine wp_goto (t := 68) dX3_cell_64 (by decide) ?_
              refine wp_pL (n := 69) dX3_cell_68 rfl (pL_mono h (fun w68 h => ?_))
              refine wp_iconst (n := 70) (v := 1) dX3_cell_69 rfl (by decide) ?_
              exact wp_ireturn dX3_cell_70 rfl h
          · replace h := h.2 c36
            refine wp_bipush (n := 41) (v := (-12)) dX3_cell_39 rfl (by decide) ?_
            exact wp_ireturn dX3_cell_41 rfl h
        · exact h.elim
      · replace h := h.2 c17
        refine wp_bipush (n := 22) (v := (-11)) dX3_cell_20 rfl (by decide) ?_
        exact wp_ireturn dX3_cell_22 rfl h
    · replace h := h.2 c4
      refine wp_bipush (n := 9) (v := (-2)) dX3_cell_7 rfl (by decide) ?_
      exact wp_ireturn dX3_cell_9 rfl h
  · exact h.elim
set_option maxHeartbeats 1000000 in
theorem sg_X3_chained_0 {h0 : Nat} {i1 : Int32} {i2 : Int32} {rc rs : Nat} {QR : Option aV → aW → Prop} {QX : String → aW → Prop} {w : aW} (h : ∃ x1 : Nat, gf w h0 [3] 1 (vR (some x1)) ∧ ∃ x8 : Int32, gI w x1 (42 + i1) x8 ∧ wp (KX3_chained) rc rs QR QX 13 [(0, vR (some h0)), (1, vI i1), (2, vI i2), (3, vI x8), (4, vI 0)] [] w) : wp (KX3_chained) rc rs QR QX 0 [(0, vR (some h0)), (1, vI i1), (2, vI i2)] [] w := by
  refine wp_aload_n (n := 1) (i := 0) (q := 0) dX3_chained_0 rfl rfl rfl ?_
  obtain ⟨x1, g1, h⟩ := h
  refine wp_gf (n := 4) dX3_chained_1 rfl fl_X3_7 g1 ?_
  refine wp_bipush (n := 6) (v := 42) dX3_chained_4 rfl (by decide) ?_
  refine wp_iload_n (n := 7) (i := 1) (q := 1) dX3_chained_6 rfl rfl rfl ?_
  refine wp_iadd (n := 8) dX3_chained_7 rfl ?_
  obtain ⟨x8, g8, h⟩ := h
  refine wp_gI (n := 9) dX3_chained_8 rfl g8 ?_
  refine wp_istore_n (n := 10) (i := 3) (ls' := [(3, vI x8), (0, vR (some h0)), (1, vI i1), (2, vI i2)]) dX3_chained_9 rfl rfl (Nat.le_of_ble_eq_true rfl) rfl ?_
  refine wp_iconst (n := 11) (v := 0) dX3_chained_10 rfl (by decide) ?_
  refine wp_istore (n := 13) (i := 4) (ls' := [(4, vI 0), (3, vI x8), (0, vR (some h0)), (1, vI i1), (2, vI i2)]) dX3_chained_11 rfl (Nat.le_of_ble_eq_true rfl) rfl ?_
  exact wp_sub [2, 3, 4, 1, 0] rfl h
set_option maxHeartbeats 1000000 in
theorem sg_X3_chained_13 {h0 : Nat} {i1 : Int32} {i2 : Int32} {i3 : Int32} {i4 : Int32} {rc rs : Nat} {QR : Option aV → aW → Prop} {QX : String → aW → Prop} {w : aW} (h : (i2 ≤ i4 → QR (some (vI i3)) w) ∧ (¬ i2 ≤ i4 → (i3 = (-1) → QR (some (vI i3)) w) ∧ (¬ i3 = (-1) → ∃ x25 : Nat, gf w h0 [3] 1 (vR (some x25)) ∧ ∃ x32 : Int32, gI w x25 (42 + i3) x32 ∧ wp (KX3_chained) rc rs QR QX 13 [(0, vR (some h0)), (1, vI i1), (2, vI i2), (3, vI x32), (4, vI (i4 + 1))] [] w))) : wp (KX3_chained) rc rs QR QX 13 [(0, vR (some h0)), (1, vI i1), (2, vI i2), (3, vI i3), (4, vI i4)] [] w := by
  refine wp_iload (n := 15) (i := 4) (q := 4) dX3_chained_13 rfl rfl ?_
  refine wp_iload_n (n := 16) (i := 2) (q := 2) dX3_chained_15 rfl rfl rfl ?_
  refine wp_icmp_ge (n := 19) (t := 40) dX3_chained_16 rfl (by decide) (fun c16 => ?_) (fun c16 => ?_)
  · replace h := h.1 c16
    refine wp_iload_n (n := 41) (i := 3) (q := 3) dX3_chained_40 rfl rfl rfl ?_
    exact wp_ireturn dX3_chained_41 rfl h
  · replace h := h.2 c16
    refine wp_iload_n (n := 20) (i := 3) (q := 3) dX3_chained_19 rfl rfl rfl ?_
    refine wp_iconst (n := 21) (v := (-1)) dX3_chained_20 rfl (by decide) ?_
    refine wp_icmp_eq (n := 24) (t := 40) dX3_chained_21 rfl (by decide) (fun c21 => ?_) (fun c21 => ?_)
    · replace h := h.1 c21
      refine wp_iload_n (n := 41) (i := 3) (q := 3) dX3_chained_40 rfl rfl rfl ?_
      exact wp_ireturn dX3_chained_41 rfl h
    · replace h := h.2 c21
      refine wp_aload_n (n := 25) (i := 0) (q := 0) dX3_chained_24 rfl rfl rfl ?_
      obtain ⟨x25, g25, h⟩ := h
      refine wp_gf (n := 28) dX3_chained_25 rfl fl_X3_7 g25 ?_
      refine wp_bipush (n := 30) (v := 42) dX3_chained_28 rfl (by decide) ?_
      refine wp_iload_n (n := 31) (i := 3) (q := 3) dX3_chained_30 rfl rfl rfl ?_
      refine wp_iadd (n := 32) dX3_chained_31 rfl ?_
      obtain ⟨x32, g32, h⟩ := h
      refine wp_gI (n := 33) dX3_chained_32 rfl g32 ?_
      refine wp_istore_n (n := 34) (i := 3) (ls' := [(3, vI x32), (0, vR (some h0)), (1, vI i1), (2, vI i2), (4, vI i4)]) dX3_chained_33 rfl rfl (Nat.le_of_ble_eq_true rfl) rfl ?_
      refine wp_iinc (n := 37) (i := 4) (q := 4) (v := i4 + 1) (ls' := [(4, vI (i4 + 1)), (3, vI x32), (0, vR (some h0)), (1, vI i1), (2, vI i2)]) dX3_chained_34 rfl rfl rfl (Nat.le_of_ble_eq_true rfl) rfl ?_
      refine wp_goto (t := 13) dX3_chained_37 (by decide) ?_
      exact wp_sub [2, 3, 4, 1, 0] rfl h
set_option maxHeartbeats 1000000 in
theorem sg_X3_newThing_0 {h0 : Nat} {rc rs : Nat} {QR : Option aV → aW → Prop} {QX : String → aW → Prop} {w : aW} (h : wp (KX3_newThing) rc rs QR QX 2 [(0, vR (some h0)), (1, vI 0)] [] w) : wp (KX3_newThing) rc rs QR QX 0 [(0, vR (some h0))] [] w := by
  refine wp_iconst (n := 1) (v := 0) dX3_newThing_0 rfl (by decide) ?_
  refine wp_istore_n (n := 2) (i := 1) (ls' := [(1, vI 0), (0, vR (some h0))]) dX3_newThing_1 rfl rfl (Nat.le_of_ble_eq_true rfl) rfl ?_
  exact wp_sub [1, 0] rfl h
set_option maxHeartbeats 1000000 in
theorem sg_X3_newThing_2 {h0 : Nat} {i1 : Int32} {rc rs : Nat} {QR : Option aV → aW → Prop} {QX : String → aW → Prop} {w : aW} (h : (20 ≤ i1 → QR (some (vI i1)) w) ∧ (¬ 20 ≤ i1 → ∃ x9 : Nat, gf w h0 [3] 1 (vR (some x9)) ∧ ∃ x15 : Int32, gI w x9 (2 + i1) x15 ∧ (x15 = (-1) → QR (some (vI i1)) w) ∧ (¬ x15 = (-1) → wp (KX3_newThing) rc rs QR QX 2 [(0, vR (some h0)), (1, vI (i1 + 1))] [] w))) : wp (KX3_newThing) rc rs QR QX 2 [(0, vR (some h0)), (1, vI i1)] [] w := by
  refine wp_iload_n (n := 3) (i := 1) (q := 1) dX3_newThing_2 rfl rfl rfl ?_
  refine wp_bipush (n := 5) (v := 20) dX3_newThing_3 rfl (by decide) ?_
  refine wp_icmp_ge (n := 8) (t := 26) dX3_newThing_5 rfl (by decide) (fun c5 => ?_) (fun c5 => ?_)
  · replace h := h.1 c5
    refine wp_iload_n (n := 27) (i := 1) (q := 1) dX3_newThing_26 rfl rfl rfl ?_
    exact wp_ireturn dX3_newThing_27 rfl h
  · replace h := h.2 c5
    refine wp_aload_n (n := 9) (i := 0) (q := 0) dX3_newThing_8 rfl rfl rfl ?_
    obtain ⟨x9, g9, h⟩ := h
    refine wp_gf (n := 12) dX3_newThing_9 rfl fl_X3_7 g9 ?_
    refine wp_iconst (n := 13) (v := 2) dX3_newThing_12 rfl (by decide) ?_
    refine wp_iload_n (n := 14) (i := 1) (q := 1) dX3_newThing_13 rfl rfl rfl ?_
    refine wp_iadd (n := 15) dX3_newThing_14 rfl ?_
    obtain ⟨x15, g15, h⟩ := h
    refine wp_gI (n := 16) dX3_newThing_15 rfl g15 ?_
    refine wp_iconst (n := 17) (v := (-1)) dX3_newThing_16 rfl (by decide) ?_
    refine wp_icmp_eq (n := 20) (t := 26) dX3_newThing_17 rfl (by decide) (fun c17 => ?_) (fun c17 => ?_)
    · replace h := h.1 c17
      refine wp_iload_n (n := 27) (i := 1) (q := 1) dX3_newThing_26 rfl rfl rfl ?_
      exact wp_ireturn dX3_newThing_27 rfl h
    · replace h := h.2 c17
      refine wp_iinc (n := 23) (i := 1) (q := 1) (v := i1 + 1) (ls' := [(1, vI (i1 + 1)), (0, vR (some h0))]) dX3_newThing_20 rfl rfl rfl (Nat.le_of_ble_eq_true rfl) rfl ?_
      refine wp_goto (t := 2) dX3_newThing_23 (by decide) ?_
      exact wp_sub [1, 0] rfl h
set_option maxHeartbeats 1000000 in
theorem sg_X3_comes_0 {h0 : Nat} {i1 : Int32} {i2 : Int32} {rc rs : Nat} {QR : Option aV → aW → Prop} {QX : String → aW → Prop} {w : aW} (h : isO w h0 3 ∧ ct (KX3_newThing) 0 0 [vR (some h0)] w (fun v1 w1 => ∃ x1 : Int32, v1 = some (vI x1) ∧ ∃ x6 : Nat, gf w1 h0 [3] 1 (vR (some x6)) ∧ pI w1 x6 (2 + x1) i1 (fun w13 => ∃ x15 : Nat, gf w13 h0 [3] 1 (vR (some x15)) ∧ pI w13 x15 (22 + x1) i2 (fun w23 => ∃ x25 : Nat, gf w23 h0 [3] 1 (vR (some x25)) ∧ pI w23 x25 (42 + x1) (-1) (fun w33 => ∃ x35 : Nat, gf w33 h0 [3] 1 (vR (some x35)) ∧ pI w33 x35 (62 + x1) (-1) (fun w43 => ∃ x45 : Nat, gf w43 h0 [3] 1 (vR (some x45)) ∧ pI w43 x45 (82 + x1) (-1) (fun w53 => ∃ x55 : Nat, gf w53 h0 [3] 1 (vR (some x55)) ∧ pI w53 x55 (102 + x1) 0 (fun w63 => wp (KX3_comes) rc rs QR QX 67 [(0, vR (some h0)), (1, vI i1), (2, vI i2), (3, vI x1), (4, vI 0)] [] w63))))))) (fun E1 w1 => False)) : wp (KX3_comes) rc rs QR QX 0 [(0, vR (some h0)), (1, vI i1), (2, vI i2)] [] w := by
  refine wp_aload_n (n := 1) (i := 0) (q := 0) dX3_comes_0 rfl rfl rfl ?_
  obtain ⟨⟨fs1, o1⟩, h⟩ := h
  refine wp_call (n := 4) (K' := KX3_newThing) (rc' := rc) (rs' := rs) (aRun_V (K' := KX3_newThing) (As := []) (rest := []) (b := h0) (c0 := .inr (3, fs1)) dX3_comes_1 (aCal_of kf_X3_newThing (Nat.le_of_ble_eq_true rfl)) q1080 q1082 qs51 ar_X3_newThing o1 (by decide : 3 < 9) rfl (Nat.le_of_ble_eq_true rfl)) rfl (Nat.le_of_eq (Nat.zero_add _)) (Nat.le_of_eq (Nat.zero_add _)) (fun v1 w1 h => ?_) (fun E1 w1 h => ?_) h
  · obtain ⟨x1, rfl, h⟩ := h
    refine wp_istore_n (n := 5) (i := 3) (ls' := [(3, vI x1), (0, vR (some h0)), (1, vI i1), (2, vI i2)]) dX3_comes_4 rfl rfl (Nat.le_of_ble_eq_true rfl) rfl ?_
    refine wp_aload_n (n := 6) (i := 0) (q := 1) dX3_comes_5 rfl rfl rfl ?_
    obtain ⟨x6, g6, h⟩ := h
    refine wp_gf (n := 9) dX3_comes_6 rfl fl_X3_7 g6 ?_
    refine wp_iconst (n := 10) (v := 2) dX3_comes_9 rfl (by decide) ?_
    refine wp_iload_n (n := 11) (i := 3) (q := 0) dX3_comes_10 rfl rfl rfl ?_
    refine wp_iadd (n := 12) dX3_comes_11 rfl ?_
    refine wp_iload_n (n := 13) (i := 1) (q := 2) dX3_comes_12 rfl rfl rfl ?_
    refine wp_pI (n := 14) dX3_comes_13 rfl (pI_mono h (fun w13 h => ?_))
    refine wp_aload_n (n := 15) (i := 0) (q := 1) dX3_comes_14 rfl rfl rfl ?_
    obtain ⟨x15, g15, h⟩ := h
    refine wp_gf (n := 18) dX3_comes_15 rfl fl_X3_7 g15 ?_
    refine wp_bipush (n := 20) (v := 22) dX3_comes_18 rfl (by decide) ?_
    refine wp_iload_n (n := 21) (i := 3) (q := 0) dX3_comes_20 rfl rfl rfl ?_
    refine wp_iadd (n := 22) dX3_comes_21 rfl ?_
    refine wp_iload_n (n := 23) (i := 2) (q := 3) dX3_comes_22 rfl rfl rfl ?_
    refine wp_pI (n := 24) dX3_comes_23 rfl (pI_mono h (fun w23 h => ?_))
    refine wp_aload_n (n := 25) (i := 0) (q := 1) dX3_comes_24 rfl rfl rfl ?_
    obtain ⟨x25, g25, h⟩ := h
    refine wp_gf (n := 28) dX3_comes_25 rfl fl_X3_7 g25 ?_
    refine wp_bipush (n := 30) (v := 42) dX3_comes_28 rfl (by decide) ?_
    refine wp_iload_n (n := 31) (i := 3) (q := 0) dX3_comes_30 rfl rfl rfl ?_
    refine wp_iadd (n := 32) dX3_comes_31 rfl ?_
    refine wp_iconst (n := 33) (v := (-1)) dX3_comes_32 rfl (by decide) ?_
    refine wp_pI (n := 34) dX3_comes_33 rfl (pI_mono h (fun w33 h => ?_))
    refine wp_aload_n (n := 35) (i := 0) (q := 1) dX3_comes_34 rfl rfl rfl ?_
    obtain ⟨x35, g35, h⟩ := h
    refine wp_gf (n := 38) dX3_comes_35 rfl fl_X3_7 g35 ?_
    refine wp_bipush (n := 40) (v := 62) dX3_comes_38 rfl (by decide) ?_
    refine wp_iload_n (n := 41) (i := 3) (q := 0) dX3_comes_40 rfl rfl rfl ?_
    refine wp_iadd (n := 42) dX3_comes_41 rfl ?_
    refine wp_iconst (n := 43) (v := (-1)) dX3_comes_42 rfl (by decide) ?_
    refine wp_pI (n := 44) dX3_comes_43 rfl (pI_mono h (fun w43 h => ?_))
    refine wp_aload_n (n := 45) (i := 0) (q := 1) dX3_comes_44 rfl rfl rfl ?_
    obtain ⟨x45, g45, h⟩ := h
    refine wp_gf (n := 48) dX3_comes_45 rfl fl_X3_7 g45 ?_
    refine wp_bipush (n := 50) (v := 82) dX3_comes_48 rfl (by decide) ?_
    refine wp_iload_n (n := 51) (i := 3) (q := 0) dX3_comes_50 rfl rfl rfl ?_
    refine wp_iadd (n := 52) dX3_comes_51 rfl ?_
    refine wp_iconst (n := 53) (v := (-1)) dX3_comes_52 rfl (by decide) ?_
    refine wp_pI (n := 54) dX3_comes_53 rfl (pI_mono h (fun w53 h => ?_))
    refine wp_aload_n (n := 55) (i := 0) (q := 1) dX3_comes_54 rfl rfl rfl ?_
    obtain ⟨x55, g55, h⟩ := h
    refine wp_gf (n := 58) dX3_comes_55 rfl fl_X3_7 g55 ?_
    refine wp_bipush (n := 60) (v := 102) dX3_comes_58 rfl (by decide) ?_
    refine wp_iload_n (n := 61) (i := 3) (q := 0) dX3_comes_60 rfl rfl rfl ?_
    refine wp_iadd (n := 62) dX3_comes_61 rfl ?_
    refine wp_iconst (n := 63) (v := 0) dX3_comes_62 rfl (by decide) ?_
    refine wp_pI (n := 64) dX3_comes_63 rfl (pI_mono h (fun w63 h => ?_))
    refine wp_iconst (n := 65) (v := 0) dX3_comes_64 rfl (by decide) ?_
    refine wp_istore (n := 67) (i := 4) (ls' := [(4, vI 0), (3, vI x1), (0, vR (some h0)), (1, vI i1), (2, vI i2)]) dX3_comes_65 rfl (Nat.le_of_ble_eq_true rfl) rfl ?_
    exact wp_sub [2, 3, 4, 1, 0] rfl h
  · exact h.elim
set_option maxHeartbeats 1000000 in
theorem sg_X3_comes_67 {h0 : Nat} {i1 : Int32} {i2 : Int32} {i3 : Int32} {i4 : Int32} {rc rs : Nat} {QR : Option aV → aW → Prop} {QX : String → aW → Prop} {w : aW} (h : (12 ≤ i4 → QR (some (vI i3)) w) ∧ (¬ 12 ≤ i4 → ∃ x75 : Nat, gf w h0 [3] 1 (vR (some x75)) ∧ pI w x75 ((122 + (12 * i3)) + i4) (-1) (fun w89 => wp (KX3_comes) rc rs QR QX 67 [(0, vR (some h0)), (1, vI i1), (2, vI i2), (3, vI i3), (4, vI (i4 + 1))] [] w89))) : wp (KX3_comes) rc rs QR QX 67 [(0, vR (some h0)), (1, vI i1), (2, vI i2), (3, vI i3), (4, vI i4)] [] w := by
  refine wp_iload (n := 69) (i := 4) (q := 4) dX3_comes_67 rfl rfl ?_
  refine wp_bipush (n := 71) (v := 12) dX3_comes_69 rfl (by decide) ?_
  refine wp_icmp_ge (n := 74) (t := 96) dX3_comes_71 rfl (by decide) (fun c71 => ?_) (fun c71 => ?_)
  · replace h := h.1 c71
    refine wp_iload_n (n := 97) (i := 3) (q := 3) dX3_comes_96 rfl rfl rfl ?_
    exact wp_ireturn dX3_comes_97 rfl h
  · replace h := h.2 c71
    refine wp_aload_n (n := 75) (i := 0) (q := 0) dX3_comes_74 rfl rfl rfl ?_
    obtain ⟨x75, g75, h⟩ := h
    refine wp_gf (n := 78) dX3_comes_75 rfl fl_X3_7 g75 ?_
    refine wp_bipush (n := 80) (v := 122) dX3_comes_78 rfl (by decide) ?_
    refine wp_bipush (n := 82) (v := 12) dX3_comes_80 rfl (by decide) ?_
    refine wp_iload_n (n := 83) (i := 3) (q := 3) dX3_comes_82 rfl rfl rfl ?_
    refine wp_imul (n := 84) dX3_comes_83 rfl ?_
    refine wp_iadd (n := 85) dX3_comes_84 rfl ?_
    refine wp_iload (n := 87) (i := 4) (q := 4) dX3_comes_85 rfl rfl ?_
    refine wp_iadd (n := 88) dX3_comes_87 rfl ?_
    refine wp_iconst (n := 89) (v := (-1)) dX3_comes_88 rfl (by decide) ?_
    refine wp_pI (n := 90) dX3_comes_89 rfl (pI_mono h (fun w89 h => ?_))
    refine wp_iinc (n := 93) (i := 4) (q := 4) (v := i4 + 1) (ls' := [(4, vI (i4 + 1)), (0, vR (some h0)), (1, vI i1), (2, vI i2), (3, vI i3)]) dX3_comes_90 rfl rfl rfl (Nat.le_of_ble_eq_true rfl) rfl ?_
    refine wp_goto (t := 67) dX3_comes_93 (by decide) ?_
    exact wp_sub [1, 2, 3, 4, 0] rfl h
set_option maxHeartbeats 1000000 in
theorem sg_X3_common_0 {h0 : Nat} {i1 : Int32} {i2 : Int32} {rc rs : Nat} {QR : Option aV → aW → Prop} {QX : String → aW → Prop} {w : aW} (h : isO w h0 3 ∧ ct (KX3_hasSlots) 0 0 [vR (some h0), vI i1] w (fun v2 w2 => ∃ x2 : Int32, v2 = some (vI x2) ∧ (x2 = 0 → QR (some (vL (-4611686018427387904))) w2) ∧ (¬ x2 = 0 → isO w2 h0 3 ∧ ct (KX3_hasSlots) 0 0 [vR (some h0), vI i2] w2 (fun v10 w10 => ∃ x10 : Int32, v10 = some (vI x10) ∧ (¬ x10 = 0 → wp (KX3_common) rc rs QR QX 25 [(0, vR (some h0)), (1, vI i1), (2, vI i2), (3, vL 0), (5, vI 0)] [] w10) ∧ (x10 = 0 → QR (some (vL (-4611686018427387904))) w10)) (fun E10 w10 => False))) (fun E2 w2 => False)) : wp (KX3_common) rc rs QR QX 0 [(0, vR (some h0)), (1, vI i1), (2, vI i2)] [] w := by
  refine wp_aload_n (n := 1) (i := 0) (q := 0) dX3_common_0 rfl rfl rfl ?_
  refine wp_iload_n (n := 2) (i := 1) (q := 1) dX3_common_1 rfl rfl rfl ?_
  obtain ⟨⟨fs2, o2⟩, h⟩ := h
  refine wp_call (n := 5) (K' := KX3_hasSlots) (rc' := rc) (rs' := rs) (aRun_V (K' := KX3_hasSlots) (As := [vI i1]) (rest := []) (b := h0) (c0 := .inr (3, fs2)) dX3_common_2 (aCal_of kf_X3_hasSlots (Nat.le_of_ble_eq_true rfl)) q1131 q1133 qs62 ar_X3_hasSlots o2 (by decide : 3 < 9) rfl (Nat.le_of_ble_eq_true rfl)) rfl (Nat.le_of_eq (Nat.zero_add _)) (Nat.le_of_eq (Nat.zero_add _)) (fun v2 w2 h => ?_) (fun E2 w2 h => ?_) h
  · obtain ⟨x2, rfl, h⟩ := h
    refine wp_if_eq (n := 8) (t := 16) dX3_common_5 rfl (by decide) (fun c5 => ?_) (fun c5 => ?_)
    · replace h := h.1 c5
      refine wp_ldc2 (n := 19) dX3_common_16 rfl q1248 ?_
      exact wp_lreturn dX3_common_19 rfl h
    · replace h := h.2 c5
      refine wp_aload_n (n := 9) (i := 0) (q := 0) dX3_common_8 rfl rfl rfl ?_
      refine wp_iload_n (n := 10) (i := 2) (q := 2) dX3_common_9 rfl rfl rfl ?_
      obtain ⟨⟨fs10, o10⟩, h⟩ := h
      refine wp_call (n := 13) (K' := KX3_hasSlots) (rc' := rc) (rs' := rs) (aRun_V (K' := KX3_hasSlots) (As := [vI i2]) (rest := []) (b := h0) (c0 := .inr (3, fs10)) dX3_common_10 (aCal_of kf_X3_hasSlots (Nat.le_of_ble_eq_true rfl)) q1131 q1133 qs62 ar_X3_hasSlots o10 (by decide : 3 < 9) rfl (Nat.le_of_ble_eq_true rfl)) rfl (Nat.le_of_eq (Nat.zero_add _)) (Nat.le_of_eq (Nat.zero_add _)) (fun v10 w10 h => ?_) (fun E10 w10 h => ?_) h
      · obtain ⟨x10, rfl, h⟩ := h
        refine wp_if_ne (n := 16) (t := 20) dX3_common_13 rfl (by decide) (fun c13 => ?_) (fun c13 => ?_)
        · replace h := h.1 c13
          refine wp_lconst (n := 21) (v := 0) dX3_common_20 rfl (by decide) ?_
          refine wp_lstore_n (n := 22) (i := 3) (ls' := [(3, vL 0), (0, vR (some h0)), (1, vI i1), (2, vI i2)]) dX3_common_21 rfl rfl (Nat.le_of_ble_eq_true rfl) rfl ?_
          refine wp_iconst (n := 23) (v := 0) dX3_common_22 rfl (by decide) ?_
          refine wp_istore (n := 25) (i := 5) (ls' := [(5, vI 0), (3, vL 0), (0, vR (some h0)), (1, vI i1), (2, vI i2)]) dX3_common_23 rfl (Nat.le_of_ble_eq_true rfl) rfl ?_
          exact wp_sub [2, 3, 4, 1, 0] rfl h
        · replace h := h.2 c13
          refine wp_ldc2 (n := 19) dX3_common_16 rfl q1248 ?_
          exact wp_lreturn dX3_common_19 rfl h
      · exact h.elim
  · exact h.elim
set_option maxHeartbeats 1000000 in
theorem sg_X3_common_25 {h0 : Nat} {i1 : Int32} {i2 : Int32} {l3 : Int64} {i5 : Int32} {rc rs : Nat} {QR : Option aV → aW → Prop} {QX : String → aW → Prop} {w : aW} (h : (96 ≤ i5 → QR (some (vL l3)) w) ∧ (¬ 96 ≤ i5 → ∃ x34 : Nat, gf w h0 [3] 1 (vR (some x34)) ∧ ∃ x43 : Int32, gI w x34 (362 + i5) x43 ∧ (x43 ≤ 0 → wp (KX3_common) rc rs QR QX 25 [(0, vR (some h0)), (1, vI i1), (2, vI i2), (3, vL (l3 + 0)), (5, vI (i5 + 1))] [] w) ∧ (¬ x43 ≤ 0 → isO w h0 3 ∧ ct (KX3_isHeld) 0 0 [vR (some h0), vI i1, vI i5] w (fun v51 w51 => ∃ x51 : Int32, v51 = some (vI x51) ∧ (x51 = 0 → wp (KX3_common) rc rs QR QX 25 [(0, vR (some h0)), (1, vI i1), (2, vI i2), (3, vL (l3 + 0)), (5, vI (i5 + 1))] [] w51) ∧ (¬ x51 = 0 → isO w51 h0 3 ∧ ct (KX3_isHeld) 0 0 [vR (some h0), vI i2, vI i5] w51 (fun v61 w61 => ∃ x61 : Int32, v61 = some (vI x61) ∧ (x61 = 0 → wp (KX3_common) rc rs QR QX 25 [(0, vR (some h0)), (1, vI i1), (2, vI i2), (3, vL (l3 + 0)), (5, vI (i5 + 1))] [] w61) ∧ (¬ x61 = 0 → ∃ x68 : Nat, gf w61 h0 [3] 1 (vR (some x68)) ∧ ∃ x77 : Int32, gI w61 x68 (362 + i5) x77 ∧ wp (KX3_common) rc rs QR QX 25 [(0, vR (some h0)), (1, vI i1), (2, vI i2), (3, vL (l3 + (Int32.toInt64 x77))), (5, vI (i5 + 1))] [] w61)) (fun E61 w61 => False))) (fun E51 w51 => False)))) : wp (KX3_common) rc rs QR QX 25 [(0, vR (some h0)), (1, vI i1), (2, vI i2), (3, vL l3), (5, vI i5)] [] w := by
  refine wp_iload (n := 27) (i := 5) (q := 4) dX3_common_25 rfl rfl ?_
  refine wp_bipush (n := 29) (v := 96) dX3_common_27 rfl (by decide) ?_
  refine wp_icmp_ge (n := 32) (t := 91) dX3_common_29 rfl (by decide) (fun c29 => ?_) (fun c29 => ?_)
  · replace h := h.1 c29
    refine wp_lload_n (n := 92) (i := 3) (q := 3) dX3_common_91 rfl rfl rfl ?_
    exact wp_lreturn dX3_common_92 rfl h
  · replace h := h.2 c29
    refine wp_lload_n (n := 33) (i := 3) (q := 3) dX3_common_32 rfl rfl rfl ?_
    refine wp_aload_n (n := 34) (i := 0) (q := 0) dX3_common_33 rfl rfl rfl ?_
    obtain ⟨x34, g34, h⟩ := h
    refine wp_gf (n := 37) dX3_common_34 rfl fl_X3_7 g34 ?_
    refine wp_sipush (n := 40) (v := 362) dX3_common_37 rfl (by decide) ?_
    refine wp_iload (n := 42) (i := 5) (q := 4) dX3_common_40 rfl rfl ?_
    refine wp_iadd (n := 43) dX3_common_42 rfl ?_
    obtain ⟨x43, g43, h⟩ := h
    refine wp_gI (n := 44) dX3_common_43 rfl g43 ?_
    refine wp_if_le (n := 47) (t := 82) dX3_common_44 rfl (by decide) (fun c44 => ?_) (fun c44 => ?_)
    · replace h := h.1 c44
      refine wp_lconst (n := 83) (v := 0) dX3_common_82 rfl (by decide) ?_
      refine wp_ladd (n := 84) dX3_common_83 rfl ?_
      refine wp_lstore_n (n := 85) (i := 3) (ls' := [(3, vL (l3 + 0)), (0, vR (some h0)), (1, vI i1), (2, vI i2), (5, vI i5)]) dX3_common_84 rfl rfl (Nat.le_of_ble_eq_true rfl) rfl ?_
      refine wp_iinc (n := 88) (i := 5) (q := 4) (v := i5 + 1) (ls' := [(5, vI (i5 + 1)), (3, vL (l3 + 0)), (0, vR (some h0)), (1, vI i1), (2, vI i2)]) dX3_common_85 rfl rfl rfl (Nat.le_of_ble_eq_true rfl) rfl ?_
      refine wp_goto (t := 25) dX3_common_88 (by decide) ?_
      exact wp_sub [2, 3, 4, 1, 0] rfl h
    · replace h := h.2 c44
      refine wp_aload_n (n := 48) (i := 0) (q := 0) dX3_common_47 rfl rfl rfl ?_
      refine wp_iload_n (n := 49) (i := 1) (q := 1) dX3_common_48 rfl rfl rfl ?_
      refine wp_iload (n := 51) (i := 5) (q := 4) dX3_common_49 rfl rfl ?_
      obtain ⟨⟨fs51, o51⟩, h⟩ := h
      refine wp_call (n := 54) (K' := KX3_isHeld) (rc' := rc) (rs' := rs) (aRun_V (K' := KX3_isHeld) (As := [vI i1, vI i5]) (rest := [vL l3]) (b := h0) (c0 := .inr (3, fs51)) dX3_common_51 (aCal_of kf_X3_isHeld (Nat.le_of_ble_eq_true rfl)) q1236 q1238 qs74 ar_X3_isHeld o51 (by decide : 3 < 9) rfl (Nat.le_of_ble_eq_true rfl)) rfl (Nat.le_of_eq (Nat.zero_add _)) (Nat.le_of_eq (Nat.zero_add _)) (fun v51 w51 h => ?_) (fun E51 w51 h => ?_) h
      · obtain ⟨x51, rfl, h⟩ := h
        refine wp_if_eq (n := 57) (t := 82) dX3_common_54 rfl (by decide) (fun c54 => ?_) (fun c54 => ?_)
        · replace h := h.1 c54
          refine wp_lconst (n := 83) (v := 0) dX3_common_82 rfl (by decide) ?_
          refine wp_ladd (n := 84) dX3_common_83 rfl ?_
          refine wp_lstore_n (n := 85) (i := 3) (ls' := [(3, vL (l3 + 0)), (0, vR (some h0)), (1, vI i1), (2, vI i2), (5, vI i5)]) dX3_common_84 rfl rfl (Nat.le_of_ble_eq_true rfl) rfl ?_
          refine wp_iinc (n := 88) (i := 5) (q := 4) (v := i5 + 1) (ls' := [(5, vI (i5 + 1)), (3, vL (l3 + 0)), (0, vR (some h0)), (1, vI i1), (2, vI i2)]) dX3_common_85 rfl rfl rfl (Nat.le_of_ble_eq_true rfl) rfl ?_
          refine wp_goto (t := 25) dX3_common_88 (by decide) ?_
          exact wp_sub [2, 3, 4, 1, 0] rfl h
        · replace h := h.2 c54
          refine wp_aload_n (n := 58) (i := 0) (q := 0) dX3_common_57 rfl rfl rfl ?_
          refine wp_iload_n (n := 59) (i := 2) (q := 2) dX3_common_58 rfl rfl rfl ?_
          refine wp_iload (n := 61) (i := 5) (q := 4) dX3_common_59 rfl rfl ?_
          obtain ⟨⟨fs61, o61⟩, h⟩ := h
          refine wp_call (n := 64) (K' := KX3_isHeld) (rc' := rc) (rs' := rs) (aRun_V (K' := KX3_isHeld) (As := [vI i2, vI i5]) (rest := [vL l3]) (b := h0) (c0 := .inr (3, fs61)) dX3_common_61 (aCal_of kf_X3_isHeld (Nat.le_of_ble_eq_true rfl)) q1236 q1238 qs74 ar_X3_isHeld o61 (by decide : 3 < 9) rfl (Nat.le_of_ble_eq_true rfl)) rfl (Nat.le_of_eq (Nat.zero_add _)) (Nat.le_of_eq (Nat.zero_add _)) (fun v61 w61 h => ?_) (fun E61 w61 h => ?_) h
          · obtain ⟨x61, rfl, h⟩ := h
            refine wp_if_eq (n := 67) (t := 82) dX3_common_64 rfl (by decide) (fun c64 => ?_) (fun c64 => ?_)
            · replace h := h.1 c64
              refine wp_lconst (n := 83) (v := 0) dX3_common_82 rfl (by decide) ?_
              refine wp_ladd (n := 84) dX3_common_83 rfl ?_
              refine wp_lstore_n (n := 85) (i := 3) (ls' := [(3, vL (l3 + 0)), (0, vR (some h0)), (1, vI i1), (2, vI i2), (5, vI i5)]) dX3_common_84 rfl rfl (Nat.le_of_ble_eq_true rfl) rfl ?_
              refine wp_iinc (n := 88) (i := 5) (q := 4) (v := i5 + 1) (ls' := [(5, vI (i5 + 1)), (3, vL (l3 + 0)), (0, vR (some h0)), (1, vI i1), (2, vI i2)]) dX3_common_85 rfl rfl rfl (Nat.le_of_ble_eq_true rfl) rfl ?_
              refine wp_goto (t := 25) dX3_common_88 (by decide) ?_
              exact wp_sub [2, 3, 4, 1, 0] rfl h
            · replace h := h.2 c64
              refine wp_aload_n (n := 68) (i := 0) (q := 0) dX3_common_67 rfl rfl rfl ?_
              obtain ⟨x68, g68, h⟩ := h
              refine wp_gf (n := 71) dX3_common_68 rfl fl_X3_7 g68 ?_
              refine wp_sipush (n := 74) (v := 362) dX3_common_71 rfl (by decide) ?_
              refine wp_iload (n := 76) (i := 5) (q := 4) dX3_common_74 rfl rfl ?_
              refine wp_iadd (n := 77) dX3_common_76 rfl ?_
              obtain ⟨x77, g77, h⟩ := h
              refine wp_gI (n := 78) dX3_common_77 rfl g77 ?_
              refine wp_i2l (n := 79) dX3_common_78 rfl ?_
              refine wp_goto (t := 83) dX3_common_79 (by decide) ?_
              refine wp_ladd (n := 84) dX3_common_83 rfl ?_
              refine wp_lstore_n (n := 85) (i := 3) (ls' := [(3, vL (l3 + (Int32.toInt64 x77))), (0, vR (some h0)), (1, vI i1), (2, vI i2), (5, vI i5)]) dX3_common_84 rfl rfl (Nat.le_of_ble_eq_true rfl) rfl ?_
              refine wp_iinc (n := 88) (i := 5) (q := 4) (v := i5 + 1) (ls' := [(5, vI (i5 + 1)), (3, vL (l3 + (Int32.toInt64 x77))), (0, vR (some h0)), (1, vI i1), (2, vI i2)]) dX3_common_85 rfl rfl rfl (Nat.le_of_ble_eq_true rfl) rfl ?_
              refine wp_goto (t := 25) dX3_common_88 (by decide) ?_
              exact wp_sub [2, 3, 4, 1, 0] rfl h
          · exact h.elim
      · exact h.elim
set_option maxHeartbeats 1000000 in
theorem sg_X3_count_0 {h0 : Nat} {i1 : Int32} {rc rs : Nat} {QR : Option aV → aW → Prop} {QX : String → aW → Prop} {w : aW} (h : (i1 = 0 → isO w h0 3 ∧ ct (KX3_things) 0 0 [vR (some h0)] w (fun v33 w33 => ∃ x33 : Int32, v33 = some (vI x33) ∧ QR (some (vI x33)) w33) (fun E33 w33 => False)) ∧ (i1 = 1 → isO w h0 3 ∧ ct (KX3_blocks) 0 0 [vR (some h0)] w (fun v38 w38 => ∃ x38 : Int32, v38 = some (vI x38) ∧ QR (some (vI x38)) w38) (fun E38 w38 => False)) ∧ (i1 = 2 → ∃ x43 : Nat, gf w h0 [3] 1 (vR (some x43)) ∧ ∃ x47 : Int32, gI w x43 0 x47 ∧ QR (some (vI x47)) w) ∧ (i1 = 3 → ∃ x50 : Nat, gf w h0 [3] 1 (vR (some x50)) ∧ ∃ x54 : Int32, gI w x50 1 x54 ∧ QR (some (vI x54)) w) ∧ (¬ i1 = 0 → ¬ i1 = 1 → ¬ i1 = 2 → ¬ i1 = 3 → QR (some (vI (-2))) w)) : wp (KX3_count) rc rs QR QX 0 [(0, vR (some h0)), (1, vI i1)] [] w := by
  refine wp_iload_n (n := 1) (i := 1) (q := 1) dX3_count_0 rfl rfl rfl ?_
  by_cases e1_0 : i1 = 0
  · replace h := h.1 e1_0
    refine wp_tableIn (t := 32) dX3_count_1 (by rw [e1_0]; decide) (by rw [e1_0]; decide) (off := 31) (by rw [e1_0]; decide) (by decide) ?_
    refine wp_aload_n (n := 33) (i := 0) (q := 0) dX3_count_32 rfl rfl rfl ?_
    obtain ⟨⟨fs33, o33⟩, h⟩ := h
    refine wp_call (n := 36) (K' := KX3_things) (rc' := rc) (rs' := rs) (aRun_V (K' := KX3_things) (As := []) (rest := []) (b := h0) (c0 := .inr (3, fs33)) dX3_count_33 (aCal_of kf_X3_things (Nat.le_of_ble_eq_true rfl)) q1359 q1361 qs86 ar_X3_things o33 (by decide : 3 < 9) rfl (Nat.le_of_ble_eq_true rfl)) rfl (Nat.le_of_eq (Nat.zero_add _)) (Nat.le_of_eq (Nat.zero_add _)) (fun v33 w33 h => ?_) (fun E33 w33 h => ?_) h
    · obtain ⟨x33, rfl, h⟩ := h
      exact wp_ireturn dX3_count_36 rfl h
    · exact h.elim
  by_cases e1_1 : i1 = 1
  · replace h := h.2.1 e1_1
    refine wp_tableIn (t := 37) dX3_count_1 (by rw [e1_1]; decide) (by rw [e1_1]; decide) (off := 36) (by rw [e1_1]; decide) (by decide) ?_
    refine wp_aload_n (n := 38) (i := 0) (q := 0) dX3_count_37 rfl rfl rfl ?_
    obtain ⟨⟨fs38, o38⟩, h⟩ := h
    refine wp_call (n := 41) (K' := KX3_blocks) (rc' := rc) (rs' := rs) (aRun_V (K' := KX3_blocks) (As := []) (rest := []) (b := h0) (c0 := .inr (3, fs38)) dX3_count_38 (aCal_of kf_X3_blocks (Nat.le_of_ble_eq_true rfl)) q1363 q1365 qs87 ar_X3_blocks o38 (by decide : 3 < 9) rfl (Nat.le_of_ble_eq_true rfl)) rfl (Nat.le_of_eq (Nat.zero_add _)) (Nat.le_of_eq (Nat.zero_add _)) (fun v38 w38 h => ?_) (fun E38 w38 h => ?_) h
    · obtain ⟨x38, rfl, h⟩ := h
      exact wp_ireturn dX3_count_41 rfl h
    · exact h.elim
  by_cases e1_2 : i1 = 2
  · replace h := h.2.2.1 e1_2
    refine wp_tableIn (t := 42) dX3_count_1 (by rw [e1_2]; decide) (by rw [e1_2]; decide) (off := 41) (by rw [e1_2]; decide) (by decide) ?_
    refine wp_aload_n (n := 43) (i := 0) (q := 0) dX3_count_42 rfl rfl rfl ?_
    obtain ⟨x43, g43, h⟩ := h
    refine wp_gf (n := 46) dX3_count_43 rfl fl_X3_7 g43 ?_
    refine wp_iconst (n := 47) (v := 0) dX3_count_46 rfl (by decide) ?_
    obtain ⟨x47, g47, h⟩ := h
    refine wp_gI (n := 48) dX3_count_47 rfl g47 ?_
    exact wp_ireturn dX3_count_48 rfl h
  by_cases e1_3 : i1 = 3
  · replace h := h.2.2.2.1 e1_3
    refine wp_tableIn (t := 49) dX3_count_1 (by rw [e1_3]; decide) (by rw [e1_3]; decide) (off := 48) (by rw [e1_3]; decide) (by decide) ?_
    refine wp_aload_n (n := 50) (i := 0) (q := 0) dX3_count_49 rfl rfl rfl ?_
    obtain ⟨x50, g50, h⟩ := h
    refine wp_gf (n := 53) dX3_count_50 rfl fl_X3_7 g50 ?_
    refine wp_iconst (n := 54) (v := 1) dX3_count_53 rfl (by decide) ?_
    obtain ⟨x54, g54, h⟩ := h
    refine wp_gI (n := 55) dX3_count_54 rfl g54 ?_
    exact wp_ireturn dX3_count_55 rfl h
  replace h := h.2.2.2.2 e1_0 e1_1 e1_2 e1_3
  have f1 : i1.toInt < 0 ∨ 3 < i1.toInt := by
    by_cases q1 : i1.toInt < 0
    · exact Or.inl q1
    · by_cases q2 : 3 < i1.toInt
      · exact Or.inr q2
      · exfalso
        have q3 : i1.toInt = 0 ∨ i1.toInt = 1 ∨ i1.toInt = 2 ∨ i1.toInt = 3 := by omega
        rcases q3 with q3 | q3 | q3 | q3
        · exact e1_0 (Int32.toInt_inj.mp (q3.trans (by decide)))
        · exact e1_1 (Int32.toInt_inj.mp (q3.trans (by decide)))
        · exact e1_2 (Int32.toInt_inj.mp (q3.trans (by decide)))
        · exact e1_3 (Int32.toInt_inj.mp (q3.trans (by decide)))
  refine wp_tableOut (t := 56) dX3_count_1 f1 (by decide) ?_
  refine wp_bipush (n := 58) (v := (-2)) dX3_count_56 rfl (by decide) ?_
  exact wp_ireturn dX3_count_58 rfl h
set_option maxHeartbeats 1000000 in
theorem sg_X3_countOf_0 {h0 : Nat} {i1 : Int32} {rc rs : Nat} {QR : Option aV → aW → Prop} {QX : String → aW → Prop} {w : aW} (h : wp (KX3_countOf) rc rs QR QX 4 [(0, vR (some h0)), (1, vI i1), (2, vI 0), (3, vI 0)] [] w) : wp (KX3_countOf) rc rs QR QX 0 [(0, vR (some h0)), (1, vI i1)] [] w := by
  refine wp_iconst (n := 1) (v := 0) dX3_countOf_0 rfl (by decide) ?_
  refine wp_istore_n (n := 2) (i := 2) (ls' := [(2, vI 0), (0, vR (some h0)), (1, vI i1)]) dX3_countOf_1 rfl rfl (Nat.le_of_ble_eq_true rfl) rfl ?_
  refine wp_iconst (n := 3) (v := 0) dX3_countOf_2 rfl (by decide) ?_
  refine wp_istore_n (n := 4) (i := 3) (ls' := [(3, vI 0), (2, vI 0), (0, vR (some h0)), (1, vI i1)]) dX3_countOf_3 rfl rfl (Nat.le_of_ble_eq_true rfl) rfl ?_
  exact wp_sub [2, 3, 1, 0] rfl h
set_option maxHeartbeats 1000000 in
theorem sg_X3_countOf_4 {h0 : Nat} {i1 : Int32} {i2 : Int32} {i3 : Int32} {rc rs : Nat} {QR : Option aV → aW → Prop} {QX : String → aW → Prop} {w : aW} (h : (8 ≤ i3 → QR (some (vI i2)) w) ∧ (¬ 8 ≤ i3 → wp (KX3_countOf) rc rs QR QX 4 [(0, vR (some h0)), (1, vI i1), (2, vI (i2 + ((i1 >>> (i3 &&& 31)) &&& 1))), (3, vI (i3 + 1))] [] w)) : wp (KX3_countOf) rc rs QR QX 4 [(0, vR (some h0)), (1, vI i1), (2, vI i2), (3, vI i3)] [] w := by
  refine wp_iload_n (n := 5) (i := 3) (q := 3) dX3_countOf_4 rfl rfl rfl ?_
  refine wp_bipush (n := 7) (v := 8) dX3_countOf_5 rfl (by decide) ?_
  refine wp_icmp_ge (n := 10) (t := 24) dX3_countOf_7 rfl (by decide) (fun c7 => ?_) (fun c7 => ?_)
  · replace h := h.1 c7
    refine wp_iload_n (n := 25) (i := 2) (q := 2) dX3_countOf_24 rfl rfl rfl ?_
    exact wp_ireturn dX3_countOf_25 rfl h
  · replace h := h.2 c7
    refine wp_iload_n (n := 11) (i := 2) (q := 2) dX3_countOf_10 rfl rfl rfl ?_
    refine wp_iload_n (n := 12) (i := 1) (q := 1) dX3_countOf_11 rfl rfl rfl ?_
    refine wp_iload_n (n := 13) (i := 3) (q := 3) dX3_countOf_12 rfl rfl rfl ?_
    refine wp_ishr (n := 14) dX3_countOf_13 rfl ?_
    refine wp_iconst (n := 15) (v := 1) dX3_countOf_14 rfl (by decide) ?_
    refine wp_iand (n := 16) dX3_countOf_15 rfl ?_
    refine wp_iadd (n := 17) dX3_countOf_16 rfl ?_
    refine wp_istore_n (n := 18) (i := 2) (ls' := [(2, vI (i2 + ((i1 >>> (i3 &&& 31)) &&& 1))), (0, vR (some h0)), (1, vI i1), (3, vI i3)]) dX3_countOf_17 rfl rfl (Nat.le_of_ble_eq_true rfl) rfl ?_
    refine wp_iinc (n := 21) (i := 3) (q := 3) (v := i3 + 1) (ls' := [(3, vI (i3 + 1)), (2, vI (i2 + ((i1 >>> (i3 &&& 31)) &&& 1))), (0, vR (some h0)), (1, vI i1)]) dX3_countOf_18 rfl rfl rfl (Nat.le_of_ble_eq_true rfl) rfl ?_
    refine wp_goto (t := 4) dX3_countOf_21 (by decide) ?_
    exact wp_sub [2, 3, 1, 0] rfl h
set_option maxHeartbeats 1000000 in
theorem sg_X3_isDead_0 {h0 : Nat} {i1 : Int32} {i2 : Int32} {rc rs : Nat} {QR : Option aV → aW → Prop} {QX : String → aW → Prop} {w : aW} (h : ∃ x1 : Nat, gf w h0 [3] 1 (vR (some x1)) ∧ ∃ x8 : Int32, gI w x1 (42 + i1) x8 ∧ (x8 = (-1) → QR (some (vI 0)) w) ∧ (¬ x8 = (-1) → ∃ x15 : Nat, gf w h0 [3] 1 (vR (some x15)) ∧ ∃ x22 : Int32, gI w x15 (42 + i1) x22 ∧ isO w h0 3 ∧ ct (KX3_isHeld) 0 0 [vR (some h0), vI x22, vI i2] w (fun v24 w24 => ∃ x24 : Int32, v24 = some (vI x24) ∧ (x24 = 0 → QR (some (vI 0)) w24) ∧ (¬ x24 = 0 → isO w24 h0 3 ∧ ct (KX3_isHeld) 0 0 [vR (some h0), vI i1, vI i2] w24 (fun v33 w33 => ∃ x33 : Int32, v33 = some (vI x33) ∧ (¬ x33 = 0 → QR (some (vI 0)) w33) ∧ (x33 = 0 → QR (some (vI 1)) w33)) (fun E33 w33 => False))) (fun E24 w24 => False))) : wp (KX3_isDead) rc rs QR QX 0 [(0, vR (some h0)), (1, vI i1), (2, vI i2)] [] w := by
  refine wp_aload_n (n := 1) (i := 0) (q := 0) dX3_isDead_0 rfl rfl rfl ?_
  obtain ⟨x1, g1, h⟩ := h
  refine wp_gf (n := 4) dX3_isDead_1 rfl fl_X3_7 g1 ?_
  refine wp_bipush (n := 6) (v := 42) dX3_isDead_4 rfl (by decide) ?_
  refine wp_iload_n (n := 7) (i := 1) (q := 1) dX3_isDead_6 rfl rfl rfl ?_
  refine wp_iadd (n := 8) dX3_isDead_7 rfl ?_
  obtain ⟨x8, g8, h⟩ := h
  refine wp_gI (n := 9) dX3_isDead_8 rfl g8 ?_
  refine wp_iconst (n := 10) (v := (-1)) dX3_isDead_9 rfl (by decide) ?_
  refine wp_icmp_eq (n := 13) (t := 43) dX3_isDead_10 rfl (by decide) (fun c10 => ?_) (fun c10 => ?_)
  · replace h := h.1 c10
    refine wp_iconst (n := 44) (v := 0) dX3_isDead_43 rfl (by decide) ?_
    exact wp_zreturn dX3_isDead_44 rfl (by decide) h
  · replace h := h.2 c10
    refine wp_aload_n (n := 14) (i := 0) (q := 0) dX3_isDead_13 rfl rfl rfl ?_
    refine wp_aload_n (n := 15) (i := 0) (q := 0) dX3_isDead_14 rfl rfl rfl ?_
    obtain ⟨x15, g15, h⟩ := h
    refine wp_gf (n := 18) dX3_isDead_15 rfl fl_X3_7 g15 ?_
    refine wp_bipush (n := 20) (v := 42) dX3_isDead_18 rfl (by decide) ?_
    refine wp_iload_n (n := 21) (i := 1) (q := 1) dX3_isDead_20 rfl rfl rfl ?_
    refine wp_iadd (n := 22) dX3_isDead_21 rfl ?_
    obtain ⟨x22, g22, h⟩ := h
    refine wp_gI (n := 23) dX3_isDead_22 rfl g22 ?_
    refine wp_iload_n (n := 24) (i := 2) (q := 2) dX3_isDead_23 rfl rfl rfl ?_
    obtain ⟨⟨fs24, o24⟩, h⟩ := h
    refine wp_call (n := 27) (K' := KX3_isHeld) (rc' := rc) (rs' := rs) (aRun_V (K' := KX3_isHeld) (As := [vI x22, vI i2]) (rest := []) (b := h0) (c0 := .inr (3, fs24)) dX3_isDead_24 (aCal_of kf_X3_isHeld (Nat.le_of_ble_eq_true rfl)) q1236 q1238 qs74 ar_X3_isHeld o24 (by decide : 3 < 9) rfl (Nat.le_of_ble_eq_true rfl)) rfl (Nat.le_of_eq (Nat.zero_add _)) (Nat.le_of_eq (Nat.zero_add _)) (fun v24 w24 h => ?_) (fun E24 w24 h => ?_) h
    · obtain ⟨x24, rfl, h⟩ := h
      refine wp_if_eq (n := 30) (t := 43) dX3_isDead_27 rfl (by decide) (fun c27 => ?_) (fun c27 => ?_)
      · replace h := h.1 c27
        refine wp_iconst (n := 44) (v := 0) dX3_isDead_43 rfl (by decide) ?_
        exact wp_zreturn dX3_isDead_44 rfl (by decide) h
      · replace h := h.2 c27
        refine wp_aload_n (n := 31) (i := 0) (q := 0) dX3_isDead_30 rfl rfl rfl ?_
        refine wp_iload_n (n := 32) (i := 1) (q := 1) dX3_isDead_31 rfl rfl rfl ?_
        refine wp_iload_n (n := 33) (i := 2) (q := 2) dX3_isDead_32 rfl rfl rfl ?_
        obtain ⟨⟨fs33, o33⟩, h⟩ := h
        refine wp_call (n := 36) (K' := KX3_isHeld) (rc' := rc) (rs' := rs) (aRun_V (K' := KX3_isHeld) (As := [vI i1, vI i2]) (rest := []) (b := h0) (c0 := .inr (3, fs33)) dX3_isDead_33 (aCal_of kf_X3_isHeld (Nat.le_of_ble_eq_true rfl)) q1236 q1238 qs74 ar_X3_isHeld o33 (by decide : 3 < 9) rfl (Nat.le_of_ble_eq_true rfl)) rfl (Nat.le_of_eq (Nat.zero_add _)) (Nat.le_of_eq (Nat.zero_add _)) (fun v33 w33 h => ?_) (fun E33 w33 h => ?_) h
        · obtain ⟨x33, rfl, h⟩ := h
          refine wp_if_ne (n := 39) (t := 43) dX3_isDead_36 rfl (by decide) (fun c36 => ?_) (fun c36 => ?_)
          · replace h := h.1 c36
            refine wp_iconst (n := 44) (v := 0) dX3_isDead_43 rfl (by decide) ?_
            exact wp_zreturn dX3_isDead_44 rfl (by decide) h
          · replace h := h.2 c36
            refine wp_iconst (n := 40) (v := 1) dX3_isDead_39 rfl (by decide) ?_
            refine wp_goto (t := 44) dX3_isDead_40 (by decide) ?_
            exact wp_zreturn dX3_isDead_44 rfl (by decide) h
        · exact h.elim
    · exact h.elim
set_option maxHeartbeats 1000000 in
theorem sg_X3_dead_0 {h0 : Nat} {i1 : Int32} {i2 : Int32} {rc rs : Nat} {QR : Option aV → aW → Prop} {QX : String → aW → Prop} {w : aW} (h : ct (KX3_in) 0 0 [vI i2, vI 0, vI 2] w (fun v3 w3 => ∃ x3 : Int32, v3 = some (vI x3) ∧ (¬ x3 = 0 → isO w3 h0 3 ∧ ct (KX3_askedSlots) 0 0 [vR (some h0), vI i1] w3 (fun v14 w14 => ∃ x14 : Int32, v14 = some (vI x14) ∧ (x14 = 0 → wp (KX3_dead) rc rs QR QX 36 [(0, vR (some h0)), (1, vI i1), (2, vI i2), (3, vI x14), (4, vI 0), (5, vI (-1)), (6, vI (-1)), (7, vI 0)] [] w14) ∧ (¬ x14 = 0 → QR (some (vI x14)) w14)) (fun E14 w14 => False)) ∧ (x3 = 0 → QR (some (vI (-2))) w3)) (fun E3 w3 => False)) : wp (KX3_dead) rc rs QR QX 0 [(0, vR (some h0)), (1, vI i1), (2, vI i2)] [] w := by
  refine wp_iload_n (n := 1) (i := 2) (q := 2) dX3_dead_0 rfl rfl rfl ?_
  refine wp_iconst (n := 2) (v := 0) dX3_dead_1 rfl (by decide) ?_
  refine wp_iconst (n := 3) (v := 2) dX3_dead_2 rfl (by decide) ?_
  refine wp_call (n := 6) (K' := KX3_in) (rc' := rc) (rs' := rs) (aRun_S (K' := KX3_in) (As := [vI i2, vI 0, vI 2]) (rest := []) dX3_dead_3 (aCal_of kf_X3_in (Nat.le_of_ble_eq_true rfl)) rfl q1077 q1078 ar_X3_in rfl (Nat.le_of_ble_eq_true rfl)) rfl (Nat.le_of_eq (Nat.zero_add _)) (Nat.le_of_eq (Nat.zero_add _)) (fun v3 w3 h => ?_) (fun E3 w3 h => ?_) h
  · obtain ⟨x3, rfl, h⟩ := h
    refine wp_if_ne (n := 9) (t := 12) dX3_dead_6 rfl (by decide) (fun c6 => ?_) (fun c6 => ?_)
    · replace h := h.1 c6
      refine wp_aload_n (n := 13) (i := 0) (q := 0) dX3_dead_12 rfl rfl rfl ?_
      refine wp_iload_n (n := 14) (i := 1) (q := 1) dX3_dead_13 rfl rfl rfl ?_
      obtain ⟨⟨fs14, o14⟩, h⟩ := h
      refine wp_call (n := 17) (K' := KX3_askedSlots) (rc' := rc) (rs' := rs) (aRun_V (K' := KX3_askedSlots) (As := [vI i1]) (rest := []) (b := h0) (c0 := .inr (3, fs14)) dX3_dead_14 (aCal_of kf_X3_askedSlots (Nat.le_of_ble_eq_true rfl)) q1216 q1218 qs72 ar_X3_askedSlots o14 (by decide : 3 < 9) rfl (Nat.le_of_ble_eq_true rfl)) rfl (Nat.le_of_eq (Nat.zero_add _)) (Nat.le_of_eq (Nat.zero_add _)) (fun v14 w14 h => ?_) (fun E14 w14 h => ?_) h
      · obtain ⟨x14, rfl, h⟩ := h
        refine wp_istore_n (n := 18) (i := 3) (ls' := [(3, vI x14), (0, vR (some h0)), (1, vI i1), (2, vI i2)]) dX3_dead_17 rfl rfl (Nat.le_of_ble_eq_true rfl) rfl ?_
        refine wp_iload_n (n := 19) (i := 3) (q := 0) dX3_dead_18 rfl rfl rfl ?_
        refine wp_if_eq (n := 22) (t := 24) dX3_dead_19 rfl (by decide) (fun c19 => ?_) (fun c19 => ?_)
        · replace h := h.1 c19
          refine wp_iconst (n := 25) (v := 0) dX3_dead_24 rfl (by decide) ?_
          refine wp_istore (n := 27) (i := 4) (ls' := [(4, vI 0), (3, vI x14), (0, vR (some h0)), (1, vI i1), (2, vI i2)]) dX3_dead_25 rfl (Nat.le_of_ble_eq_true rfl) rfl ?_
          refine wp_iconst (n := 28) (v := (-1)) dX3_dead_27 rfl (by decide) ?_
          refine wp_istore (n := 30) (i := 5) (ls' := [(5, vI (-1)), (4, vI 0), (3, vI x14), (0, vR (some h0)), (1, vI i1), (2, vI i2)]) dX3_dead_28 rfl (Nat.le_of_ble_eq_true rfl) rfl ?_
          refine wp_iconst (n := 31) (v := (-1)) dX3_dead_30 rfl (by decide) ?_
          refine wp_istore (n := 33) (i := 6) (ls' := [(6, vI (-1)), (5, vI (-1)), (4, vI 0), (3, vI x14), (0, vR (some h0)), (1, vI i1), (2, vI i2)]) dX3_dead_31 rfl (Nat.le_of_ble_eq_true rfl) rfl ?_
          refine wp_iconst (n := 34) (v := 0) dX3_dead_33 rfl (by decide) ?_
          refine wp_istore (n := 36) (i := 7) (ls' := [(7, vI 0), (6, vI (-1)), (5, vI (-1)), (4, vI 0), (3, vI x14), (0, vR (some h0)), (1, vI i1), (2, vI i2)]) dX3_dead_34 rfl (Nat.le_of_ble_eq_true rfl) rfl ?_
          exact wp_sub [5, 6, 7, 4, 3, 2, 1, 0] rfl h
        · replace h := h.2 c19
          refine wp_iload_n (n := 23) (i := 3) (q := 0) dX3_dead_22 rfl rfl rfl ?_
          exact wp_ireturn dX3_dead_23 rfl h
      · exact h.elim
    · replace h := h.2 c6
      refine wp_bipush (n := 11) (v := (-2)) dX3_dead_9 rfl (by decide) ?_
      exact wp_ireturn dX3_dead_11 rfl h
  · exact h.elim
set_option maxHeartbeats 1000000 in
theorem sg_X3_dead_36 {h0 : Nat} {i1 : Int32} {i2 : Int32} {i3 : Int32} {i4 : Int32} {i5 : Int32} {i6 : Int32} {i7 : Int32} {rc rs : Nat} {QR : Option aV → aW → Prop} {QX : String → aW → Prop} {w : aW} (h : (96 ≤ i7 → (¬ i2 = 0 → (¬ i2 = 1 → QR (some (vI i6)) w) ∧ (i2 = 1 → QR (some (vI i5)) w)) ∧ (i2 = 0 → QR (some (vI i4)) w)) ∧ (¬ 96 ≤ i7 → isO w h0 3 ∧ ct (KX3_isDead) 0 0 [vR (some h0), vI i1, vI i7] w (fun v47 w47 => ∃ x47 : Int32, v47 = some (vI x47) ∧ (x47 = 0 → wp (KX3_dead) rc rs QR QX 36 [(0, vR (some h0)), (1, vI i1), (2, vI i2), (3, vI i3), (4, vI i4), (5, vI i5), (6, vI i6), (7, vI (i7 + 1))] [] w47) ∧ (¬ x47 = 0 → (i5 = (-1) → (i6 = (-1) → wp (KX3_dead) rc rs QR QX 36 [(0, vR (some h0)), (1, vI i1), (2, vI i2), (3, vI i3), (4, vI (i4 + 1)), (5, vI i7), (6, vI i7), (7, vI (i7 + 1))] [] w47) ∧ (¬ i6 = (-1) → ∃ x103 : Nat, gf w47 h0 [3] 1 (vR (some x103)) ∧ ∃ x112 : Int32, gI w47 x103 (458 + i7) x112 ∧ ∃ x114 : Nat, gf w47 h0 [3] 1 (vR (some x114)) ∧ ∃ x123 : Int32, gI w47 x114 (458 + i6) x123 ∧ (x123 < x112 → wp (KX3_dead) rc rs QR QX 36 [(0, vR (some h0)), (1, vI i1), (2, vI i2), (3, vI i3), (4, vI (i4 + 1)), (5, vI i7), (6, vI i6), (7, vI (i7 + 1))] [] w47) ∧ (¬ x123 < x112 → wp (KX3_dead) rc rs QR QX 36 [(0, vR (some h0)), (1, vI i1), (2, vI i2), (3, vI i3), (4, vI (i4 + 1)), (5, vI i7), (6, vI i7), (7, vI (i7 + 1))] [] w47))) ∧ (¬ i5 = (-1) → ∃ x63 : Nat, gf w47 h0 [3] 1 (vR (some x63)) ∧ ∃ x72 : Int32, gI w47 x63 (458 + i7) x72 ∧ ∃ x74 : Nat, gf w47 h0 [3] 1 (vR (some x74)) ∧ ∃ x83 : Int32, gI w47 x74 (458 + i5) x83 ∧ (x72 ≤ x83 → (i6 = (-1) → wp (KX3_dead) rc rs QR QX 36 [(0, vR (some h0)), (1, vI i1), (2, vI i2), (3, vI i3), (4, vI (i4 + 1)), (5, vI i5), (6, vI i7), (7, vI (i7 + 1))] [] w47) ∧ (¬ i6 = (-1) → ∃ x103 : Nat, gf w47 h0 [3] 1 (vR (some x103)) ∧ ∃ x112 : Int32, gI w47 x103 (458 + i7) x112 ∧ ∃ x114 : Nat, gf w47 h0 [3] 1 (vR (some x114)) ∧ ∃ x123 : Int32, gI w47 x114 (458 + i6) x123 ∧ (x123 < x112 → wp (KX3_dead) rc rs QR QX 36 [(0, vR (some h0)), (1, vI i1), (2, vI i2), (3, vI i3), (4, vI (i4 + 1)), (5, vI i5), (6, vI i6), (7, vI (i7 + 1))] [] w47) ∧ (¬ x123 < x112 → wp (KX3_dead) rc rs QR QX 36 [(0, vR (some h0)), (1, vI i1), (2, vI i2), (3, vI i3), (4, vI (i4 + 1)), (5, vI i5), (6, vI i7), (7, vI (i7 + 1))] [] w47))) ∧ (¬ x72 ≤ x83 → (i6 = (-1) → wp (KX3_dead) rc rs QR QX 36 [(0, vR (some h0)), (1, vI i1), (2, vI i2), (3, vI i3), (4, vI (i4 + 1)), (5, vI i7), (6, vI i7), (7, vI (i7 + 1))] [] w47) ∧ (¬ i6 = (-1) → ∃ x103 : Nat, gf w47 h0 [3] 1 (vR (some x103)) ∧ ∃ x112 : Int32, gI w47 x103 (458 + i7) x112 ∧ ∃ x114 : Nat, gf w47 h0 [3] 1 (vR (some x114)) ∧ ∃ x123 : Int32, gI w47 x114 (458 + i6) x123 ∧ (x123 < x112 → wp (KX3_dead) rc rs QR QX 36 [(0, vR (some h0)), (1, vI i1), (2, vI i2), (3, vI i3), (4, vI (i4 + 1)), (5, vI i7), (6, vI i6), (7, vI (i7 + 1))] [] w47) ∧ (¬ x123 < x112 → wp (KX3_dead) rc rs QR QX 36 [(0, vR (some h0)), (1, vI i1), (2, vI i2), (3, vI i3), (4, vI (i4 + 1)), (5, vI i7), (6, vI i7), (7, vI (i7 + 1))] [] w47)))))) (fun E47 w47 => False))) : wp (KX3_dead) rc rs QR QX 36 [(0, vR (some h0)), (1, vI i1), (2, vI i2), (3, vI i3), (4, vI i4), (5, vI i5), (6, vI i6), (7, vI i7)] [] w := by
  refine wp_iload (n := 38) (i := 7) (q := 7) dX3_dead_36 rfl rfl ?_
  refine wp_bipush (n := 40) (v := 96) dX3_dead_38 rfl (by decide) ?_
  refine wp_icmp_ge (n := 43) (t := 142) dX3_dead_40 rfl (by decide) (fun c40 => ?_) (fun c40 => ?_)
  · replace h := h.1 c40
    refine wp_iload_n (n := 143) (i := 2) (q := 2) dX3_dead_142 rfl rfl rfl ?_
    refine wp_if_ne (n := 146) (t := 151) dX3_dead_143 rfl (by decide) (fun c143 => ?_) (fun c143 => ?_)
    · replace h := h.1 c143
      refine wp_iload_n (n := 152) (i := 2) (q := 2) dX3_dead_151 rfl rfl rfl ?_
      refine wp_iconst (n := 153) (v := 1) dX3_dead_152 rfl (by decide) ?_
      refine wp_icmp_ne (n := 156) (t := 161) dX3_dead_153 rfl (by decide) (fun c153 => ?_) (fun c153 => ?_)
      · replace h := h.1 c153
        refine wp_iload (n := 163) (i := 6) (q := 6) dX3_dead_161 rfl rfl ?_
        exact wp_ireturn dX3_dead_163 rfl h
      · replace h := h.2 c153
        refine wp_iload (n := 158) (i := 5) (q := 5) dX3_dead_156 rfl rfl ?_
        refine wp_goto (t := 163) dX3_dead_158 (by decide) ?_
        exact wp_ireturn dX3_dead_163 rfl h
    · replace h := h.2 c143
      refine wp_iload (n := 148) (i := 4) (q := 4) dX3_dead_146 rfl rfl ?_
      refine wp_goto (t := 163) dX3_dead_148 (by decide) ?_
      exact wp_ireturn dX3_dead_163 rfl h
  · replace h := h.2 c40
    refine wp_aload_n (n := 44) (i := 0) (q := 0) dX3_dead_43 rfl rfl rfl ?_
    refine wp_iload_n (n := 45) (i := 1) (q := 1) dX3_dead_44 rfl rfl rfl ?_
    refine wp_iload (n := 47) (i := 7) (q := 7) dX3_dead_45 rfl rfl ?_
    obtain ⟨⟨fs47, o47⟩, h⟩ := h
    refine wp_call (n := 50) (K' := KX3_isDead) (rc' := rc) (rs' := rs) (aRun_V (K' := KX3_isDead) (As := [vI i1, vI i7]) (rest := []) (b := h0) (c0 := .inr (3, fs47)) dX3_dead_47 (aCal_of kf_X3_isDead (Nat.le_of_ble_eq_true rfl)) q1232 q1234 qs73 ar_X3_isDead o47 (by decide : 3 < 9) rfl (Nat.le_of_ble_eq_true rfl)) rfl (Nat.le_of_eq (Nat.zero_add _)) (Nat.le_of_eq (Nat.zero_add _)) (fun v47 w47 h => ?_) (fun E47 w47 h => ?_) h
    · obtain ⟨x47, rfl, h⟩ := h
      refine wp_if_eq (n := 53) (t := 136) dX3_dead_50 rfl (by decide) (fun c50 => ?_) (fun c50 => ?_)
      · replace h := h.1 c50
        refine wp_iinc (n := 139) (i := 7) (q := 7) (v := i7 + 1) (ls' := [(7, vI (i7 + 1)), (0, vR (some h0)), (1, vI i1), (2, vI i2), (3, vI i3), (4, vI i4), (5, vI i5), (6, vI i6)]) dX3_dead_136 rfl rfl rfl (Nat.le_of_ble_eq_true rfl) rfl ?_
        refine wp_goto (t := 36) dX3_dead_139 (by decide) ?_
        exact wp_sub [1, 2, 3, 4, 5, 6, 7, 0] rfl h
      · replace h := h.2 c50
        refine wp_iinc (n := 56) (i := 4) (q := 4) (v := i4 + 1) (ls' := [(4, vI (i4 + 1)), (0, vR (some h0)), (1, vI i1), (2, vI i2), (3, vI i3), (5, vI i5), (6, vI i6), (7, vI i7)]) dX3_dead_53 rfl rfl rfl (Nat.le_of_ble_eq_true rfl) rfl ?_
        refine wp_iload (n := 58) (i := 5) (q := 5) dX3_dead_56 rfl rfl ?_
        refine wp_iconst (n := 59) (v := (-1)) dX3_dead_58 rfl (by decide) ?_
        refine wp_icmp_eq (n := 62) (t := 87) dX3_dead_59 rfl (by decide) (fun c59 => ?_) (fun c59 => ?_)
        · replace h := h.1 c59
          refine wp_iload (n := 89) (i := 7) (q := 7) dX3_dead_87 rfl rfl ?_
          refine wp_goto (t := 94) dX3_dead_89 (by decide) ?_
          refine wp_istore (n := 96) (i := 5) (ls' := [(5, vI i7), (4, vI (i4 + 1)), (0, vR (some h0)), (1, vI i1), (2, vI i2), (3, vI i3), (6, vI i6), (7, vI i7)]) dX3_dead_94 rfl (Nat.le_of_ble_eq_true rfl) rfl ?_
          refine wp_iload (n := 98) (i := 6) (q := 6) dX3_dead_96 rfl rfl ?_
          refine wp_iconst (n := 99) (v := (-1)) dX3_dead_98 rfl (by decide) ?_
          refine wp_icmp_eq (n := 102) (t := 127) dX3_dead_99 rfl (by decide) (fun c99 => ?_) (fun c99 => ?_)
          · replace h := h.1 c99
            refine wp_iload (n := 129) (i := 7) (q := 7) dX3_dead_127 rfl rfl ?_
            refine wp_goto (t := 134) dX3_dead_129 (by decide) ?_
            refine wp_istore (n := 136) (i := 6) (ls' := [(6, vI i7), (5, vI i7), (4, vI (i4 + 1)), (0, vR (some h0)), (1, vI i1), (2, vI i2), (3, vI i3), (7, vI i7)]) dX3_dead_134 rfl (Nat.le_of_ble_eq_true rfl) rfl ?_
            refine wp_iinc (n := 139) (i := 7) (q := 7) (v := i7 + 1) (ls' := [(7, vI (i7 + 1)), (6, vI i7), (5, vI i7), (4, vI (i4 + 1)), (0, vR (some h0)), (1, vI i1), (2, vI i2), (3, vI i3)]) dX3_dead_136 rfl rfl rfl (Nat.le_of_ble_eq_true rfl) rfl ?_
            refine wp_goto (t := 36) dX3_dead_139 (by decide) ?_
            exact wp_sub [4, 5, 6, 7, 3, 2, 1, 0] rfl h
          · replace h := h.2 c99
            refine wp_aload_n (n := 103) (i := 0) (q := 2) dX3_dead_102 rfl rfl rfl ?_
            obtain ⟨x103, g103, h⟩ := h
            refine wp_gf (n := 106) dX3_dead_103 rfl fl_X3_7 g103 ?_
            refine wp_sipush (n := 109) (v := 458) dX3_dead_106 rfl (by decide) ?_
            refine wp_iload (n := 111) (i := 7) (q := 7) dX3_dead_109 rfl rfl ?_
            refine wp_iadd (n := 112) dX3_dead_111 rfl ?_
            obtain ⟨x112, g112, h⟩ := h
            refine wp_gI (n := 113) dX3_dead_112 rfl g112 ?_
            refine wp_aload_n (n := 114) (i := 0) (q := 2) dX3_dead_113 rfl rfl rfl ?_
            obtain ⟨x114, g114, h⟩ := h
            refine wp_gf (n := 117) dX3_dead_114 rfl fl_X3_7 g114 ?_
            refine wp_sipush (n := 120) (v := 458) dX3_dead_117 rfl (by decide) ?_
            refine wp_iload (n := 122) (i := 6) (q := 6) dX3_dead_120 rfl rfl ?_
            refine wp_iadd (n := 123) dX3_dead_122 rfl ?_
            obtain ⟨x123, g123, h⟩ := h
            refine wp_gI (n := 124) dX3_dead_123 rfl g123 ?_
            refine wp_icmp_gt (n := 127) (t := 132) dX3_dead_124 rfl (by decide) (fun c124 => ?_) (fun c124 => ?_)
            · replace h := h.1 c124
              refine wp_iload (n := 134) (i := 6) (q := 6) dX3_dead_132 rfl rfl ?_
              refine wp_istore (n := 136) (i := 6) (ls' := [(6, vI i6), (5, vI i7), (4, vI (i4 + 1)), (0, vR (some h0)), (1, vI i1), (2, vI i2), (3, vI i3), (7, vI i7)]) dX3_dead_134 rfl (Nat.le_of_ble_eq_true rfl) rfl ?_
              refine wp_iinc (n := 139) (i := 7) (q := 7) (v := i7 + 1) (ls' := [(7, vI (i7 + 1)), (6, vI i6), (5, vI i7), (4, vI (i4 + 1)), (0, vR (some h0)), (1, vI i1), (2, vI i2), (3, vI i3)]) dX3_dead_136 rfl rfl rfl (Nat.le_of_ble_eq_true rfl) rfl ?_
              refine wp_goto (t := 36) dX3_dead_139 (by decide) ?_
              exact wp_sub [4, 5, 6, 7, 3, 2, 1, 0] rfl h
            · replace h := h.2 c124
              refine wp_iload (n := 129) (i := 7) (q := 7) dX3_dead_127 rfl rfl ?_
              refine wp_goto (t := 134) dX3_dead_129 (by decide) ?_
              refine wp_istore (n := 136) (i := 6) (ls' := [(6, vI i7), (5, vI i7), (4, vI (i4 + 1)), (0, vR (some h0)), (1, vI i1), (2, vI i2), (3, vI i3), (7, vI i7)]) dX3_dead_134 rfl (Nat.le_of_ble_eq_true rfl) rfl ?_
              refine wp_iinc (n := 139) (i := 7) (q := 7) (v := i7 + 1) (ls' := [(7, vI (i7 + 1)), (6, vI i7), (5, vI i7), (4, vI (i4 + 1)), (0, vR (some h0)), (1, vI i1), (2, vI i2), (3, vI i3)]) dX3_dead_136 rfl rfl rfl (Nat.le_of_ble_eq_true rfl) rfl ?_
              refine wp_goto (t := 36) dX3_dead_139 (by decide) ?_
              exact wp_sub [4, 5, 6, 7, 3, 2, 1, 0] rfl h
        · replace h := h.2 c59
          refine wp_aload_n (n := 63) (i := 0) (q := 1) dX3_dead_62 rfl rfl rfl ?_
          obtain ⟨x63, g63, h⟩ := h
          refine wp_gf (n := 66) dX3_dead_63 rfl fl_X3_7 g63 ?_
          refine wp_sipush (n := 69) (v := 458) dX3_dead_66 rfl (by decide) ?_
          refine wp_iload (n := 71) (i := 7) (q := 7) dX3_dead_69 rfl rfl ?_
          refine wp_iadd (n := 72) dX3_dead_71 rfl ?_
          obtain ⟨x72, g72, h⟩ := h
          refine wp_gI (n := 73) dX3_dead_72 rfl g72 ?_
          refine wp_aload_n (n := 74) (i := 0) (q := 1) dX3_dead_73 rfl rfl rfl ?_
          obtain ⟨x74, g74, h⟩ := h
          refine wp_gf (n := 77) dX3_dead_74 rfl fl_X3_7 g74 ?_
          refine wp_sipush (n := 80) (v := 458) dX3_dead_77 rfl (by decide) ?_
          refine wp_iload (n := 82) (i := 5) (q := 5) dX3_dead_80 rfl rfl ?_
          refine wp_iadd (n := 83) dX3_dead_82 rfl ?_
          obtain ⟨x83, g83, h⟩ := h
          refine wp_gI (n := 84) dX3_dead_83 rfl g83 ?_
          refine wp_icmp_le (n := 87) (t := 92) dX3_dead_84 rfl (by decide) (fun c84 => ?_) (fun c84 => ?_)
          · replace h := h.1 c84
            refine wp_iload (n := 94) (i := 5) (q := 5) dX3_dead_92 rfl rfl ?_
            refine wp_istore (n := 96) (i := 5) (ls' := [(5, vI i5), (4, vI (i4 + 1)), (0, vR (some h0)), (1, vI i1), (2, vI i2), (3, vI i3), (6, vI i6), (7, vI i7)]) dX3_dead_94 rfl (Nat.le_of_ble_eq_true rfl) rfl ?_
            refine wp_iload (n := 98) (i := 6) (q := 6) dX3_dead_96 rfl rfl ?_
            refine wp_iconst (n := 99) (v := (-1)) dX3_dead_98 rfl (by decide) ?_
            refine wp_icmp_eq (n := 102) (t := 127) dX3_dead_99 rfl (by decide) (fun c99 => ?_) (fun c99 => ?_)
            · replace h := h.1 c99
              refine wp_iload (n := 129) (i := 7) (q := 7) dX3_dead_127 rfl rfl ?_
              refine wp_goto (t := 134) dX3_dead_129 (by decide) ?_
              refine wp_istore (n := 136) (i := 6) (ls' := [(6, vI i7), (5, vI i5), (4, vI (i4 + 1)), (0, vR (some h0)), (1, vI i1), (2, vI i2), (3, vI i3), (7, vI i7)]) dX3_dead_134 rfl (Nat.le_of_ble_eq_true rfl) rfl ?_
              refine wp_iinc (n := 139) (i := 7) (q := 7) (v := i7 + 1) (ls' := [(7, vI (i7 + 1)), (6, vI i7), (5, vI i5), (4, vI (i4 + 1)), (0, vR (some h0)), (1, vI i1), (2, vI i2), (3, vI i3)]) dX3_dead_136 rfl rfl rfl (Nat.le_of_ble_eq_true rfl) rfl ?_
              refine wp_goto (t := 36) dX3_dead_139 (by decide) ?_
              exact wp_sub [4, 5, 6, 7, 3, 2, 1, 0] rfl h
            · replace h := h.2 c99
              refine wp_aload_n (n := 103) (i := 0) (q := 2) dX3_dead_102 rfl rfl rfl ?_
              obtain ⟨x103, g103, h⟩ := h
              refine wp_gf (n := 106) dX3_dead_103 rfl fl_X3_7 g103 ?_
              refine wp_sipush (n := 109) (v := 458) dX3_dead_106 rfl (by decide) ?_
              refine wp_iload (n := 111) (i := 7) (q := 7) dX3_dead_109 rfl rfl ?_
              refine wp_iadd (n := 112) dX3_dead_111 rfl ?_
              obtain ⟨x112, g112, h⟩ := h
              refine wp_gI (n := 113) dX3_dead_112 rfl g112 ?_
              refine wp_aload_n (n := 114) (i := 0) (q := 2) dX3_dead_113 rfl rfl rfl ?_
              obtain ⟨x114, g114, h⟩ := h
              refine wp_gf (n := 117) dX3_dead_114 rfl fl_X3_7 g114 ?_
              refine wp_sipush (n := 120) (v := 458) dX3_dead_117 rfl (by decide) ?_
              refine wp_iload (n := 122) (i := 6) (q := 6) dX3_dead_120 rfl rfl ?_
              refine wp_iadd (n := 123) dX3_dead_122 rfl ?_
              obtain ⟨x123, g123, h⟩ := h
              refine wp_gI (n := 124) dX3_dead_123 rfl g123 ?_
              refine wp_icmp_gt (n := 127) (t := 132) dX3_dead_124 rfl (by decide) (fun c124 => ?_) (fun c124 => ?_)
              · replace h := h.1 c124
                refine wp_iload (n := 134) (i := 6) (q := 6) dX3_dead_132 rfl rfl ?_
                refine wp_istore (n := 136) (i := 6) (ls' := [(6, vI i6), (5, vI i5), (4, vI (i4 + 1)), (0, vR (some h0)), (1, vI i1), (2, vI i2), (3, vI i3), (7, vI i7)]) dX3_dead_134 rfl (Nat.le_of_ble_eq_true rfl) rfl ?_
                refine wp_iinc (n := 139) (i := 7) (q := 7) (v := i7 + 1) (ls' := [(7, vI (i7 + 1)), (6, vI i6), (5, vI i5), (4, vI (i4 + 1)), (0, vR (some h0)), (1, vI i1), (2, vI i2), (3, vI i3)]) dX3_dead_136 rfl rfl rfl (Nat.le_of_ble_eq_true rfl) rfl ?_
                refine wp_goto (t := 36) dX3_dead_139 (by decide) ?_
                exact wp_sub [4, 5, 6, 7, 3, 2, 1, 0] rfl h
              · replace h := h.2 c124
                refine wp_iload (n := 129) (i := 7) (q := 7) dX3_dead_127 rfl rfl ?_
                refine wp_goto (t := 134) dX3_dead_129 (by decide) ?_
                refine wp_istore (n := 136) (i := 6) (ls' := [(6, vI i7), (5, vI i5), (4, vI (i4 + 1)), (0, vR (some h0)), (1, vI i1), (2, vI i2), (3, vI i3), (7, vI i7)]) dX3_dead_134 rfl (Nat.le_of_ble_eq_true rfl) rfl ?_
                refine wp_iinc (n := 139) (i := 7) (q := 7) (v := i7 + 1) (ls' := [(7, vI (i7 + 1)), (6, vI i7), (5, vI i5), (4, vI (i4 + 1)), (0, vR (some h0)), (1, vI i1), (2, vI i2), (3, vI i3)]) dX3_dead_136 rfl rfl rfl (Nat.le_of_ble_eq_true rfl) rfl ?_
                refine wp_goto (t := 36) dX3_dead_139 (by decide) ?_
                exact wp_sub [4, 5, 6, 7, 3, 2, 1, 0] rfl h
          · replace h := h.2 c84
            refine wp_iload (n := 89) (i := 7) (q := 7) dX3_dead_87 rfl rfl ?_
            refine wp_goto (t := 94) dX3_dead_89 (by decide) ?_
            refine wp_istore (n := 96) (i := 5) (ls' := [(5, vI i7), (4, vI (i4 + 1)), (0, vR (some h0)), (1, vI i1), (2, vI i2), (3, vI i3), (6, vI i6), (7, vI i7)]) dX3_dead_94 rfl (Nat.le_of_ble_eq_true rfl) rfl ?_
            refine wp_iload (n := 98) (i := 6) (q := 6) dX3_dead_96 rfl rfl ?_
            refine wp_iconst (n := 99) (v := (-1)) dX3_dead_98 rfl (by decide) ?_
            refine wp_icmp_eq (n := 102) (t := 127) dX3_dead_99 rfl (by decide) (fun c99 => ?_) (fun c99 => ?_)
            · replace h := h.1 c99
              refine wp_iload (n := 129) (i := 7) (q := 7) dX3_dead_127 rfl rfl ?_
              refine wp_goto (t := 134) dX3_dead_129 (by decide) ?_
              refine wp_istore (n := 136) (i := 6) (ls' := [(6, vI i7), (5, vI i7), (4, vI (i4 + 1)), (0, vR (some h0)), (1, vI i1), (2, vI i2), (3, vI i3), (7, vI i7)]) dX3_dead_134 rfl (Nat.le_of_ble_eq_true rfl) rfl ?_
              refine wp_iinc (n := 139) (i := 7) (q := 7) (v := i7 + 1) (ls' := [(7, vI (i7 + 1)), (6, vI i7), (5, vI i7), (4, vI (i4 + 1)), (0, vR (some h0)), (1, vI i1), (2, vI i2), (3, vI i3)]) dX3_dead_136 rfl rfl rfl (Nat.le_of_ble_eq_true rfl) rfl ?_
              refine wp_goto (t := 36) dX3_dead_139 (by decide) ?_
              exact wp_sub [4, 5, 6, 7, 3, 2, 1, 0] rfl h
            · replace h := h.2 c99
              refine wp_aload_n (n := 103) (i := 0) (q := 2) dX3_dead_102 rfl rfl rfl ?_
              obtain ⟨x103, g103, h⟩ := h
              refine wp_gf (n := 106) dX3_dead_103 rfl fl_X3_7 g103 ?_
              refine wp_sipush (n := 109) (v := 458) dX3_dead_106 rfl (by decide) ?_
              refine wp_iload (n := 111) (i := 7) (q := 7) dX3_dead_109 rfl rfl ?_
              refine wp_iadd (n := 112) dX3_dead_111 rfl ?_
              obtain ⟨x112, g112, h⟩ := h
              refine wp_gI (n := 113) dX3_dead_112 rfl g112 ?_
              refine wp_aload_n (n := 114) (i := 0) (q := 2) dX3_dead_113 rfl rfl rfl ?_
              obtain ⟨x114, g114, h⟩ := h
              refine wp_gf (n := 117) dX3_dead_114 rfl fl_X3_7 g114 ?_
              refine wp_sipush (n := 120) (v := 458) dX3_dead_117 rfl (by decide) ?_
              refine wp_iload (n := 122) (i := 6) (q := 6) dX3_dead_120 rfl rfl ?_
              refine wp_iadd (n := 123) dX3_dead_122 rfl ?_
              obtain ⟨x123, g123, h⟩ := h
              refine wp_gI (n := 124) dX3_dead_123 rfl g123 ?_
              refine wp_icmp_gt (n := 127) (t := 132) dX3_dead_124 rfl (by decide) (fun c124 => ?_) (fun c124 => ?_)
              · replace h := h.1 c124
                refine wp_iload (n := 134) (i := 6) (q := 6) dX3_dead_132 rfl rfl ?_
                refine wp_istore (n := 136) (i := 6) (ls' := [(6, vI i6), (5, vI i7), (4, vI (i4 + 1)), (0, vR (some h0)), (1, vI i1), (2, vI i2), (3, vI i3), (7, vI i7)]) dX3_dead_134 rfl (Nat.le_of_ble_eq_true rfl) rfl ?_
                refine wp_iinc (n := 139) (i := 7) (q := 7) (v := i7 + 1) (ls' := [(7, vI (i7 + 1)), (6, vI i6), (5, vI i7), (4, vI (i4 + 1)), (0, vR (some h0)), (1, vI i1), (2, vI i2), (3, vI i3)]) dX3_dead_136 rfl rfl rfl (Nat.le_of_ble_eq_true rfl) rfl ?_
                refine wp_goto (t := 36) dX3_dead_139 (by decide) ?_
                exact wp_sub [4, 5, 6, 7, 3, 2, 1, 0] rfl h
              · replace h := h.2 c124
                refine wp_iload (n := 129) (i := 7) (q := 7) dX3_dead_127 rfl rfl ?_
                refine wp_goto (t := 134) dX3_dead_129 (by decide) ?_
                refine wp_istore (n := 136) (i := 6) (ls' := [(6, vI i7), (5, vI i7), (4, vI (i4 + 1)), (0, vR (some h0)), (1, vI i1), (2, vI i2), (3, vI i3), (7, vI i7)]) dX3_dead_134 rfl (Nat.le_of_ble_eq_true rfl) rfl ?_
                refine wp_iinc (n := 139) (i := 7) (q := 7) (v := i7 + 1) (ls' := [(7, vI (i7 + 1)), (6, vI i7), (5, vI i7), (4, vI (i4 + 1)), (0, vR (some h0)), (1, vI i1), (2, vI i2), (3, vI i3)]) dX3_dead_136 rfl rfl rfl (Nat.le_of_ble_eq_true rfl) rfl ?_
                refine wp_goto (t := 36) dX3_dead_139 (by decide) ?_
                exact wp_sub [4, 5, 6, 7, 3, 2, 1, 0] rfl h
    · exact h.elim
set_option maxHeartbeats 1000000 in
theorem sg_X3_deadList_0 {h0 : Nat} {i1 : Int32} {i2 : Int32} {rc rs : Nat} {QR : Option aV → aW → Prop} {QX : String → aW → Prop} {w : aW} (h : isO w h0 3 ∧ ct (KX3_hasSlots) 0 0 [vR (some h0), vI i1] w (fun v2 w2 => ∃ x2 : Int32, v2 = some (vI x2) ∧ (x2 = 0 → QR (some (vL (-4611686018427387904))) w2) ∧ (¬ x2 = 0 → ct (KX3_in) 0 0 [vI i2, vI 0, vI 19] w2 (fun v12 w12 => ∃ x12 : Int32, v12 = some (vI x12) ∧ (x12 = 0 → QR (some (vL (-4611686018427387904))) w12) ∧ (¬ x12 = 0 → isO w12 h0 3 ∧ ct (KX3_chained) 0 0 [vR (some h0), vI i1, vI i2] w12 (fun v21 w21 => ∃ x21 : Int32, v21 = some (vI x21) ∧ (¬ x21 = (-1) → isO w21 h0 3 ∧ ct (KX3_chained) 0 0 [vR (some h0), vI i1, vI i2] w21 (fun v35 w35 => ∃ x35 : Int32, v35 = some (vI x35) ∧ isO w35 h0 3 ∧ ct (KX3_chained) 0 0 [vR (some h0), vI i1, vI (i2 + 1)] w35 (fun v44 w44 => ∃ x44 : Int32, v44 = some (vI x44) ∧ wp (KX3_deadList) rc rs QR QX 55 [(0, vR (some h0)), (1, vI i1), (2, vI i2), (3, vI x35), (4, vI x44), (5, vL 0), (7, vI 0)] [] w44) (fun E44 w44 => False)) (fun E35 w35 => False)) ∧ (x21 = (-1) → QR (some (vL (-4611686018427387904))) w21)) (fun E21 w21 => False))) (fun E12 w12 => False))) (fun E2 w2 => False)) : wp (KX3_deadList) rc rs QR QX 0 [(0, vR (some h0)), (1, vI i1), (2, vI i2)] [] w := by
  refine wp_aload_n (n := 1) (i := 0) (q := 0) dX3_deadList_0 rfl rfl rfl ?_
  refine wp_iload_n (n := 2) (i := 1) (q := 1) dX3_deadList_1 rfl rfl rfl ?_
  obtain ⟨⟨fs2, o2⟩, h⟩ := h
  refine wp_call (n := 5) (K' := KX3_hasSlots) (rc' := rc) (rs' := rs) (aRun_V (K' := KX3_hasSlots) (As := [vI i1]) (rest := []) (b := h0) (c0 := .inr (3, fs2)) dX3_deadList_2 (aCal_of kf_X3_hasSlots (Nat.le_of_ble_eq_true rfl)) q1131 q1133 qs62 ar_X3_hasSlots o2 (by decide : 3 < 9) rfl (Nat.le_of_ble_eq_true rfl)) rfl (Nat.le_of_eq (Nat.zero_add _)) (Nat.le_of_eq (Nat.zero_add _)) (fun v2 w2 h => ?_) (fun E2 w2 h => ?_) h
  · obtain ⟨x2, rfl, h⟩ := h
    refine wp_if_eq (n := 8) (t := 28) dX3_deadList_5 rfl (by decide) (fun c5 => ?_) (fun c5 => ?_)
    · replace h := h.1 c5
      refine wp_ldc2 (n := 31) dX3_deadList_28 rfl q1248 ?_
      exact wp_lreturn dX3_deadList_31 rfl h
    · replace h := h.2 c5
      refine wp_iload_n (n := 9) (i := 2) (q := 2) dX3_deadList_8 rfl rfl rfl ?_
      refine wp_iconst (n := 10) (v := 0) dX3_deadList_9 rfl (by decide) ?_
      refine wp_bipush (n := 12) (v := 19) dX3_deadList_10 rfl (by decide) ?_
      refine wp_call (n := 15) (K' := KX3_in) (rc' := rc) (rs' := rs) (aRun_S (K' := KX3_in) (As := [vI i2, vI 0, vI 19]) (rest := []) dX3_deadList_12 (aCal_of kf_X3_in (Nat.le_of_ble_eq_true rfl)) rfl q1077 q1078 ar_X3_in rfl (Nat.le_of_ble_eq_true rfl)) rfl (Nat.le_of_eq (Nat.zero_add _)) (Nat.le_of_eq (Nat.zero_add _)) (fun v12 w12 h => ?_) (fun E12 w12 h => ?_) h
      · obtain ⟨x12, rfl, h⟩ := h
        refine wp_if_eq (n := 18) (t := 28) dX3_deadList_15 rfl (by decide) (fun c15 => ?_) (fun c15 => ?_)
        · replace h := h.1 c15
          refine wp_ldc2 (n := 31) dX3_deadList_28 rfl q1248 ?_
          exact wp_lreturn dX3_deadList_31 rfl h
        · replace h := h.2 c15
          refine wp_aload_n (n := 19) (i := 0) (q := 0) dX3_deadList_18 rfl rfl rfl ?_
          refine wp_iload_n (n := 20) (i := 1) (q := 1) dX3_deadList_19 rfl rfl rfl ?_
          refine wp_iload_n (n := 21) (i := 2) (q := 2) dX3_deadList_20 rfl rfl rfl ?_
          obtain ⟨⟨fs21, o21⟩, h⟩ := h
          refine wp_call (n := 24) (K' := KX3_chained) (rc' := rc) (rs' := rs) (aRun_V (K' := KX3_chained) (As := [vI i1, vI i2]) (rest := []) (b := h0) (c0 := .inr (3, fs21)) dX3_deadList_21 (aCal_of kf_X3_chained (Nat.le_of_ble_eq_true rfl)) q1244 q1246 qs75 ar_X3_chained o21 (by decide : 3 < 9) rfl (Nat.le_of_ble_eq_true rfl)) rfl (Nat.le_of_eq (Nat.zero_add _)) (Nat.le_of_eq (Nat.zero_add _)) (fun v21 w21 h => ?_) (fun E21 w21 h => ?_) h
          · obtain ⟨x21, rfl, h⟩ := h
            refine wp_iconst (n := 25) (v := (-1)) dX3_deadList_24 rfl (by decide) ?_
            refine wp_icmp_ne (n := 28) (t := 32) dX3_deadList_25 rfl (by decide) (fun c25 => ?_) (fun c25 => ?_)
            · replace h := h.1 c25
              refine wp_aload_n (n := 33) (i := 0) (q := 0) dX3_deadList_32 rfl rfl rfl ?_
              refine wp_iload_n (n := 34) (i := 1) (q := 1) dX3_deadList_33 rfl rfl rfl ?_
              refine wp_iload_n (n := 35) (i := 2) (q := 2) dX3_deadList_34 rfl rfl rfl ?_
              obtain ⟨⟨fs35, o35⟩, h⟩ := h
              refine wp_call (n := 38) (K' := KX3_chained) (rc' := rc) (rs' := rs) (aRun_V (K' := KX3_chained) (As := [vI i1, vI i2]) (rest := []) (b := h0) (c0 := .inr (3, fs35)) dX3_deadList_35 (aCal_of kf_X3_chained (Nat.le_of_ble_eq_true rfl)) q1244 q1246 qs75 ar_X3_chained o35 (by decide : 3 < 9) rfl (Nat.le_of_ble_eq_true rfl)) rfl (Nat.le_of_eq (Nat.zero_add _)) (Nat.le_of_eq (Nat.zero_add _)) (fun v35 w35 h => ?_) (fun E35 w35 h => ?_) h
              · obtain ⟨x35, rfl, h⟩ := h
                refine wp_istore_n (n := 39) (i := 3) (ls' := [(3, vI x35), (0, vR (some h0)), (1, vI i1), (2, vI i2)]) dX3_deadList_38 rfl rfl (Nat.le_of_ble_eq_true rfl) rfl ?_
                refine wp_aload_n (n := 40) (i := 0) (q := 1) dX3_deadList_39 rfl rfl rfl ?_
                refine wp_iload_n (n := 41) (i := 1) (q := 2) dX3_deadList_40 rfl rfl rfl ?_
                refine wp_iload_n (n := 42) (i := 2) (q := 3) dX3_deadList_41 rfl rfl rfl ?_
                refine wp_iconst (n := 43) (v := 1) dX3_deadList_42 rfl (by decide) ?_
                refine wp_iadd (n := 44) dX3_deadList_43 rfl ?_
                obtain ⟨⟨fs44, o44⟩, h⟩ := h
                refine wp_call (n := 47) (K' := KX3_chained) (rc' := rc) (rs' := rs) (aRun_V (K' := KX3_chained) (As := [vI i1, vI (i2 + 1)]) (rest := []) (b := h0) (c0 := .inr (3, fs44)) dX3_deadList_44 (aCal_of kf_X3_chained (Nat.le_of_ble_eq_true rfl)) q1244 q1246 qs75 ar_X3_chained o44 (by decide : 3 < 9) rfl (Nat.le_of_ble_eq_true rfl)) rfl (Nat.le_of_eq (Nat.zero_add _)) (Nat.le_of_eq (Nat.zero_add _)) (fun v44 w44 h => ?_) (fun E44 w44 h => ?_) h
                · obtain ⟨x44, rfl, h⟩ := h
                  refine wp_istore (n := 49) (i := 4) (ls' := [(4, vI x44), (3, vI x35), (0, vR (some h0)), (1, vI i1), (2, vI i2)]) dX3_deadList_47 rfl (Nat.le_of_ble_eq_true rfl) rfl ?_
                  refine wp_lconst (n := 50) (v := 0) dX3_deadList_49 rfl (by decide) ?_
                  refine wp_lstore (n := 52) (i := 5) (ls' := [(5, vL 0), (4, vI x44), (3, vI x35), (0, vR (some h0)), (1, vI i1), (2, vI i2)]) dX3_deadList_50 rfl (Nat.le_of_ble_eq_true rfl) rfl ?_
                  refine wp_iconst (n := 53) (v := 0) dX3_deadList_52 rfl (by decide) ?_
                  refine wp_istore (n := 55) (i := 7) (ls' := [(7, vI 0), (5, vL 0), (4, vI x44), (3, vI x35), (0, vR (some h0)), (1, vI i1), (2, vI i2)]) dX3_deadList_53 rfl (Nat.le_of_ble_eq_true rfl) rfl ?_
                  exact wp_sub [4, 5, 6, 3, 2, 1, 0] rfl h
                · exact h.elim
              · exact h.elim
            · replace h := h.2 c25
              refine wp_ldc2 (n := 31) dX3_deadList_28 rfl q1248 ?_
              exact wp_lreturn dX3_deadList_31 rfl h
          · exact h.elim
      · exact h.elim
  · exact h.elim
set_option maxHeartbeats 1000000 in
theorem sg_X3_deadList_55 {h0 : Nat} {i1 : Int32} {i2 : Int32} {i3 : Int32} {i4 : Int32} {l5 : Int64} {i7 : Int32} {rc rs : Nat} {QR : Option aV → aW → Prop} {QX : String → aW → Prop} {w : aW} (h : (96 ≤ i7 → QR (some (vL l5)) w) ∧ (¬ 96 ≤ i7 → isO w h0 3 ∧ ct (KX3_isDead) 0 0 [vR (some h0), vI i1, vI i7] w (fun v66 w66 => ∃ x66 : Int32, v66 = some (vI x66) ∧ (x66 = 0 → wp (KX3_deadList) rc rs QR QX 55 [(0, vR (some h0)), (1, vI i1), (2, vI i2), (3, vI i3), (4, vI i4), (5, vL (l5 + 0)), (7, vI (i7 + 1))] [] w66) ∧ (¬ x66 = 0 → ∃ x73 : Nat, gf w66 h0 [3] 1 (vR (some x73)) ∧ ∃ x82 : Int32, gI w66 x73 (458 + i7) x82 ∧ ∃ x84 : Nat, gf w66 h0 [3] 1 (vR (some x84)) ∧ ∃ x91 : Int32, gI w66 x84 (22 + i3) x91 ∧ (x91 < x82 → wp (KX3_deadList) rc rs QR QX 55 [(0, vR (some h0)), (1, vI i1), (2, vI i2), (3, vI i3), (4, vI i4), (5, vL (l5 + 0)), (7, vI (i7 + 1))] [] w66) ∧ (¬ x91 < x82 → (i4 = (-1) → ∃ x140 : Nat, gf w66 h0 [3] 1 (vR (some x140)) ∧ ∃ x149 : Int32, gI w66 x140 (362 + i7) x149 ∧ wp (KX3_deadList) rc rs QR QX 55 [(0, vR (some h0)), (1, vI i1), (2, vI i2), (3, vI i3), (4, vI i4), (5, vL (l5 + (Int32.toInt64 x149))), (7, vI (i7 + 1))] [] w66) ∧ (¬ i4 = (-1) → ∃ x102 : Nat, gf w66 h0 [3] 1 (vR (some x102)) ∧ ∃ x111 : Int32, gI w66 x102 (458 + i7) x111 ∧ ∃ x113 : Nat, gf w66 h0 [3] 1 (vR (some x113)) ∧ ∃ x121 : Int32, gI w66 x113 (22 + i4) x121 ∧ (x111 ≤ x121 → wp (KX3_deadList) rc rs QR QX 55 [(0, vR (some h0)), (1, vI i1), (2, vI i2), (3, vI i3), (4, vI i4), (5, vL (l5 + 0)), (7, vI (i7 + 1))] [] w66) ∧ (¬ x111 ≤ x121 → ∃ x140 : Nat, gf w66 h0 [3] 1 (vR (some x140)) ∧ ∃ x149 : Int32, gI w66 x140 (362 + i7) x149 ∧ wp (KX3_deadList) rc rs QR QX 55 [(0, vR (some h0)), (1, vI i1), (2, vI i2), (3, vI i3), (4, vI i4), (5, vL (l5 + (Int32.toInt64 x149))), (7, vI (i7 + 1))] [] w66))))) (fun E66 w66 => False))) : wp (KX3_deadList) rc rs QR QX 55 [(0, vR (some h0)), (1, vI i1), (2, vI i2), (3, vI i3), (4, vI i4), (5, vL l5), (7, vI i7)] [] w := by
  refine wp_iload (n := 57) (i := 7) (q := 6) dX3_deadList_55 rfl rfl ?_
  refine wp_bipush (n := 59) (v := 96) dX3_deadList_57 rfl (by decide) ?_
  refine wp_icmp_ge (n := 62) (t := 164) dX3_deadList_59 rfl (by decide) (fun c59 => ?_) (fun c59 => ?_)
  · replace h := h.1 c59
    refine wp_lload (n := 166) (i := 5) (q := 5) dX3_deadList_164 rfl rfl ?_
    exact wp_lreturn dX3_deadList_166 rfl h
  · replace h := h.2 c59
    refine wp_aload_n (n := 63) (i := 0) (q := 0) dX3_deadList_62 rfl rfl rfl ?_
    refine wp_iload_n (n := 64) (i := 1) (q := 1) dX3_deadList_63 rfl rfl rfl ?_
    refine wp_iload (n := 66) (i := 7) (q := 6) dX3_deadList_64 rfl rfl ?_
    obtain ⟨⟨fs66, o66⟩, h⟩ := h
    refine wp_call (n := 69) (K' := KX3_isDead) (rc' := rc) (rs' := rs) (aRun_V (K' := KX3_isDead) (As := [vI i1, vI i7]) (rest := []) (b := h0) (c0 := .inr (3, fs66)) dX3_deadList_66 (aCal_of kf_X3_isDead (Nat.le_of_ble_eq_true rfl)) q1232 q1234 qs73 ar_X3_isDead o66 (by decide : 3 < 9) rfl (Nat.le_of_ble_eq_true rfl)) rfl (Nat.le_of_eq (Nat.zero_add _)) (Nat.le_of_eq (Nat.zero_add _)) (fun v66 w66 h => ?_) (fun E66 w66 h => ?_) h
    · obtain ⟨x66, rfl, h⟩ := h
      refine wp_if_eq (n := 72) (t := 129) dX3_deadList_69 rfl (by decide) (fun c69 => ?_) (fun c69 => ?_)
      · replace h := h.1 c69
        refine wp_iconst (n := 130) (v := 0) dX3_deadList_129 rfl (by decide) ?_
        refine wp_istore (n := 132) (i := 8) (ls' := [(8, vI 0), (0, vR (some h0)), (1, vI i1), (2, vI i2), (3, vI i3), (4, vI i4), (5, vL l5), (7, vI i7)]) dX3_deadList_130 rfl (Nat.le_of_ble_eq_true rfl) rfl ?_
        refine wp_lload (n := 134) (i := 5) (q := 6) dX3_deadList_132 rfl rfl ?_
        refine wp_iload (n := 136) (i := 8) (q := 0) dX3_deadList_134 rfl rfl ?_
        refine wp_if_eq (n := 139) (t := 154) dX3_deadList_136 rfl (by decide) (fun _ => ?_) (fun z => absurd z (by decide))
        refine wp_lconst (n := 155) (v := 0) dX3_deadList_154 rfl (by decide) ?_
        refine wp_ladd (n := 156) dX3_deadList_155 rfl ?_
        refine wp_lstore (n := 158) (i := 5) (ls' := [(5, vL (l5 + 0)), (8, vI 0), (0, vR (some h0)), (1, vI i1), (2, vI i2), (3, vI i3), (4, vI i4), (7, vI i7)]) dX3_deadList_156 rfl (Nat.le_of_ble_eq_true rfl) rfl ?_
        refine wp_iinc (n := 161) (i := 7) (q := 7) (v := i7 + 1) (ls' := [(7, vI (i7 + 1)), (5, vL (l5 + 0)), (8, vI 0), (0, vR (some h0)), (1, vI i1), (2, vI i2), (3, vI i3), (4, vI i4)]) dX3_deadList_158 rfl rfl rfl (Nat.le_of_ble_eq_true rfl) rfl ?_
        refine wp_goto (t := 55) dX3_deadList_161 (by decide) ?_
        exact wp_sub [3, 4, 5, 6, 7, 1, 0] rfl h
      · replace h := h.2 c69
        refine wp_aload_n (n := 73) (i := 0) (q := 0) dX3_deadList_72 rfl rfl rfl ?_
        obtain ⟨x73, g73, h⟩ := h
        refine wp_gf (n := 76) dX3_deadList_73 rfl fl_X3_7 g73 ?_
        refine wp_sipush (n := 79) (v := 458) dX3_deadList_76 rfl (by decide) ?_
        refine wp_iload (n := 81) (i := 7) (q := 6) dX3_deadList_79 rfl rfl ?_
        refine wp_iadd (n := 82) dX3_deadList_81 rfl ?_
        obtain ⟨x82, g82, h⟩ := h
        refine wp_gI (n := 83) dX3_deadList_82 rfl g82 ?_
        refine wp_aload_n (n := 84) (i := 0) (q := 0) dX3_deadList_83 rfl rfl rfl ?_
        obtain ⟨x84, g84, h⟩ := h
        refine wp_gf (n := 87) dX3_deadList_84 rfl fl_X3_7 g84 ?_
        refine wp_bipush (n := 89) (v := 22) dX3_deadList_87 rfl (by decide) ?_
        refine wp_iload_n (n := 90) (i := 3) (q := 3) dX3_deadList_89 rfl rfl rfl ?_
        refine wp_iadd (n := 91) dX3_deadList_90 rfl ?_
        obtain ⟨x91, g91, h⟩ := h
        refine wp_gI (n := 92) dX3_deadList_91 rfl g91 ?_
        refine wp_icmp_gt (n := 95) (t := 129) dX3_deadList_92 rfl (by decide) (fun c92 => ?_) (fun c92 => ?_)
        · replace h := h.1 c92
          refine wp_iconst (n := 130) (v := 0) dX3_deadList_129 rfl (by decide) ?_
          refine wp_istore (n := 132) (i := 8) (ls' := [(8, vI 0), (0, vR (some h0)), (1, vI i1), (2, vI i2), (3, vI i3), (4, vI i4), (5, vL l5), (7, vI i7)]) dX3_deadList_130 rfl (Nat.le_of_ble_eq_true rfl) rfl ?_
          refine wp_lload (n := 134) (i := 5) (q := 6) dX3_deadList_132 rfl rfl ?_
          refine wp_iload (n := 136) (i := 8) (q := 0) dX3_deadList_134 rfl rfl ?_
          refine wp_if_eq (n := 139) (t := 154) dX3_deadList_136 rfl (by decide) (fun _ => ?_) (fun z => absurd z (by decide))
          refine wp_lconst (n := 155) (v := 0) dX3_deadList_154 rfl (by decide) ?_
          refine wp_ladd (n := 156) dX3_deadList_155 rfl ?_
          refine wp_lstore (n := 158) (i := 5) (ls' := [(5, vL (l5 + 0)), (8, vI 0), (0, vR (some h0)), (1, vI i1), (2, vI i2), (3, vI i3), (4, vI i4), (7, vI i7)]) dX3_deadList_156 rfl (Nat.le_of_ble_eq_true rfl) rfl ?_
          refine wp_iinc (n := 161) (i := 7) (q := 7) (v := i7 + 1) (ls' := [(7, vI (i7 + 1)), (5, vL (l5 + 0)), (8, vI 0), (0, vR (some h0)), (1, vI i1), (2, vI i2), (3, vI i3), (4, vI i4)]) dX3_deadList_158 rfl rfl rfl (Nat.le_of_ble_eq_true rfl) rfl ?_
          refine wp_goto (t := 55) dX3_deadList_161 (by decide) ?_
          exact wp_sub [3, 4, 5, 6, 7, 1, 0] rfl h
        · replace h := h.2 c92
          refine wp_iload (n := 97) (i := 4) (q := 4) dX3_deadList_95 rfl rfl ?_
          refine wp_iconst (n := 98) (v := (-1)) dX3_deadList_97 rfl (by decide) ?_
          refine wp_icmp_eq (n := 101) (t := 125) dX3_deadList_98 rfl (by decide) (fun c98 => ?_) (fun c98 => ?_)
          · replace h := h.1 c98
            refine wp_iconst (n := 126) (v := 1) dX3_deadList_125 rfl (by decide) ?_
            refine wp_goto (t := 130) dX3_deadList_126 (by decide) ?_
            refine wp_istore (n := 132) (i := 8) (ls' := [(8, vI 1), (0, vR (some h0)), (1, vI i1), (2, vI i2), (3, vI i3), (4, vI i4), (5, vL l5), (7, vI i7)]) dX3_deadList_130 rfl (Nat.le_of_ble_eq_true rfl) rfl ?_
            refine wp_lload (n := 134) (i := 5) (q := 6) dX3_deadList_132 rfl rfl ?_
            refine wp_iload (n := 136) (i := 8) (q := 0) dX3_deadList_134 rfl rfl ?_
            refine wp_if_eq (n := 139) (t := 154) dX3_deadList_136 rfl (by decide) (fun z => absurd z (by decide)) (fun _ => ?_)
            refine wp_aload_n (n := 140) (i := 0) (q := 1) dX3_deadList_139 rfl rfl rfl ?_
            obtain ⟨x140, g140, h⟩ := h
            refine wp_gf (n := 143) dX3_deadList_140 rfl fl_X3_7 g140 ?_
            refine wp_sipush (n := 146) (v := 362) dX3_deadList_143 rfl (by decide) ?_
            refine wp_iload (n := 148) (i := 7) (q := 7) dX3_deadList_146 rfl rfl ?_
            refine wp_iadd (n := 149) dX3_deadList_148 rfl ?_
            obtain ⟨x149, g149, h⟩ := h
            refine wp_gI (n := 150) dX3_deadList_149 rfl g149 ?_
            refine wp_i2l (n := 151) dX3_deadList_150 rfl ?_
            refine wp_goto (t := 155) dX3_deadList_151 (by decide) ?_
            refine wp_ladd (n := 156) dX3_deadList_155 rfl ?_
            refine wp_lstore (n := 158) (i := 5) (ls' := [(5, vL (l5 + (Int32.toInt64 x149))), (8, vI 1), (0, vR (some h0)), (1, vI i1), (2, vI i2), (3, vI i3), (4, vI i4), (7, vI i7)]) dX3_deadList_156 rfl (Nat.le_of_ble_eq_true rfl) rfl ?_
            refine wp_iinc (n := 161) (i := 7) (q := 7) (v := i7 + 1) (ls' := [(7, vI (i7 + 1)), (5, vL (l5 + (Int32.toInt64 x149))), (8, vI 1), (0, vR (some h0)), (1, vI i1), (2, vI i2), (3, vI i3), (4, vI i4)]) dX3_deadList_158 rfl rfl rfl (Nat.le_of_ble_eq_true rfl) rfl ?_
            refine wp_goto (t := 55) dX3_deadList_161 (by decide) ?_
            exact wp_sub [3, 4, 5, 6, 7, 1, 0] rfl h
          · replace h := h.2 c98
            refine wp_aload_n (n := 102) (i := 0) (q := 0) dX3_deadList_101 rfl rfl rfl ?_
            obtain ⟨x102, g102, h⟩ := h
            refine wp_gf (n := 105) dX3_deadList_102 rfl fl_X3_7 g102 ?_
            refine wp_sipush (n := 108) (v := 458) dX3_deadList_105 rfl (by decide) ?_
            refine wp_iload (n := 110) (i := 7) (q := 6) dX3_deadList_108 rfl rfl ?_
            refine wp_iadd (n := 111) dX3_deadList_110 rfl ?_
            obtain ⟨x111, g111, h⟩ := h
            refine wp_gI (n := 112) dX3_deadList_111 rfl g111 ?_
            refine wp_aload_n (n := 113) (i := 0) (q := 0) dX3_deadList_112 rfl rfl rfl ?_
            obtain ⟨x113, g113, h⟩ := h
            refine wp_gf (n := 116) dX3_deadList_113 rfl fl_X3_7 g113 ?_
            refine wp_bipush (n := 118) (v := 22) dX3_deadList_116 rfl (by decide) ?_
            refine wp_iload (n := 120) (i := 4) (q := 4) dX3_deadList_118 rfl rfl ?_
            refine wp_iadd (n := 121) dX3_deadList_120 rfl ?_
            obtain ⟨x121, g121, h⟩ := h
            refine wp_gI (n := 122) dX3_deadList_121 rfl g121 ?_
            refine wp_icmp_le (n := 125) (t := 129) dX3_deadList_122 rfl (by decide) (fun c122 => ?_) (fun c122 => ?_)
            · replace h := h.1 c122
              refine wp_iconst (n := 130) (v := 0) dX3_deadList_129 rfl (by decide) ?_
              refine wp_istore (n := 132) (i := 8) (ls' := [(8, vI 0), (0, vR (some h0)), (1, vI i1), (2, vI i2), (3, vI i3), (4, vI i4), (5, vL l5), (7, vI i7)]) dX3_deadList_130 rfl (Nat.le_of_ble_eq_true rfl) rfl ?_
              refine wp_lload (n := 134) (i := 5) (q := 6) dX3_deadList_132 rfl rfl ?_
              refine wp_iload (n := 136) (i := 8) (q := 0) dX3_deadList_134 rfl rfl ?_
              refine wp_if_eq (n := 139) (t := 154) dX3_deadList_136 rfl (by decide) (fun _ => ?_) (fun z => absurd z (by decide))
              refine wp_lconst (n := 155) (v := 0) dX3_deadList_154 rfl (by decide) ?_
              refine wp_ladd (n := 156) dX3_deadList_155 rfl ?_
              refine wp_lstore (n := 158) (i := 5) (ls' := [(5, vL (l5 + 0)), (8, vI 0), (0, vR (some h0)), (1, vI i1), (2, vI i2), (3, vI i3), (4, vI i4), (7, vI i7)]) dX3_deadList_156 rfl (Nat.le_of_ble_eq_true rfl) rfl ?_
              refine wp_iinc (n := 161) (i := 7) (q := 7) (v := i7 + 1) (ls' := [(7, vI (i7 + 1)), (5, vL (l5 + 0)), (8, vI 0), (0, vR (some h0)), (1, vI i1), (2, vI i2), (3, vI i3), (4, vI i4)]) dX3_deadList_158 rfl rfl rfl (Nat.le_of_ble_eq_true rfl) rfl ?_
              refine wp_goto (t := 55) dX3_deadList_161 (by decide) ?_
              exact wp_sub [3, 4, 5, 6, 7, 1, 0] rfl h
            · replace h := h.2 c122
              refine wp_iconst (n := 126) (v := 1) dX3_deadList_125 rfl (by decide) ?_
              refine wp_goto (t := 130) dX3_deadList_126 (by decide) ?_
              refine wp_istore (n := 132) (i := 8) (ls' := [(8, vI 1), (0, vR (some h0)), (1, vI i1), (2, vI i2), (3, vI i3), (4, vI i4), (5, vL l5), (7, vI i7)]) dX3_deadList_130 rfl (Nat.le_of_ble_eq_true rfl) rfl ?_
              refine wp_lload (n := 134) (i := 5) (q := 6) dX3_deadList_132 rfl rfl ?_
              refine wp_iload (n := 136) (i := 8) (q := 0) dX3_deadList_134 rfl rfl ?_
              refine wp_if_eq (n := 139) (t := 154) dX3_deadList_136 rfl (by decide) (fun z => absurd z (by decide)) (fun _ => ?_)
              refine wp_aload_n (n := 140) (i := 0) (q := 1) dX3_deadList_139 rfl rfl rfl ?_
              obtain ⟨x140, g140, h⟩ := h
              refine wp_gf (n := 143) dX3_deadList_140 rfl fl_X3_7 g140 ?_
              refine wp_sipush (n := 146) (v := 362) dX3_deadList_143 rfl (by decide) ?_
              refine wp_iload (n := 148) (i := 7) (q := 7) dX3_deadList_146 rfl rfl ?_
              refine wp_iadd (n := 149) dX3_deadList_148 rfl ?_
              obtain ⟨x149, g149, h⟩ := h
              refine wp_gI (n := 150) dX3_deadList_149 rfl g149 ?_
              refine wp_i2l (n := 151) dX3_deadList_150 rfl ?_
              refine wp_goto (t := 155) dX3_deadList_151 (by decide) ?_
              refine wp_ladd (n := 156) dX3_deadList_155 rfl ?_
              refine wp_lstore (n := 158) (i := 5) (ls' := [(5, vL (l5 + (Int32.toInt64 x149))), (8, vI 1), (0, vR (some h0)), (1, vI i1), (2, vI i2), (3, vI i3), (4, vI i4), (7, vI i7)]) dX3_deadList_156 rfl (Nat.le_of_ble_eq_true rfl) rfl ?_
              refine wp_iinc (n := 161) (i := 7) (q := 7) (v := i7 + 1) (ls' := [(7, vI (i7 + 1)), (5, vL (l5 + (Int32.toInt64 x149))), (8, vI 1), (0, vR (some h0)), (1, vI i1), (2, vI i2), (3, vI i3), (4, vI i4)]) dX3_deadList_158 rfl rfl rfl (Nat.le_of_ble_eq_true rfl) rfl ?_
              refine wp_goto (t := 55) dX3_deadList_161 (by decide) ?_
              exact wp_sub [3, 4, 5, 6, 7, 1, 0] rfl h
    · exact h.elim
set_option maxHeartbeats 1000000 in
theorem sg_X3_makes_0 {h0 : Nat} {i1 : Int32} {i2 : Int32} {i3 : Int32} {rc rs : Nat} {QR : Option aV → aW → Prop} {QX : String → aW → Prop} {w : aW} (h : ∃ x1 : Nat, gf w h0 [3] 9 (vR (some x1)) ∧ pI w x1 i1 i2 (fun w6 => ∃ x8 : Nat, gf w6 h0 [3] 10 (vR (some x8)) ∧ pI w6 x8 i1 i3 (fun w13 => wp (KX3_makes) rc rs QR QX 17 [(0, vR (some h0)), (1, vI i1), (2, vI i2), (3, vI i3), (4, vI 0)] [] w13))) : wp (KX3_makes) rc rs QR QX 0 [(0, vR (some h0)), (1, vI i1), (2, vI i2), (3, vI i3)] [] w := by
  refine wp_aload_n (n := 1) (i := 0) (q := 0) dX3_makes_0 rfl rfl rfl ?_
  obtain ⟨x1, g1, h⟩ := h
  refine wp_gf (n := 4) dX3_makes_1 rfl fl_X3_28 g1 ?_
  refine wp_iload_n (n := 5) (i := 1) (q := 1) dX3_makes_4 rfl rfl rfl ?_
  refine wp_iload_n (n := 6) (i := 2) (q := 2) dX3_makes_5 rfl rfl rfl ?_
  refine wp_pI (n := 7) dX3_makes_6 rfl (pI_mono h (fun w6 h => ?_))
  refine wp_aload_n (n := 8) (i := 0) (q := 0) dX3_makes_7 rfl rfl rfl ?_
  obtain ⟨x8, g8, h⟩ := h
  refine wp_gf (n := 11) dX3_makes_8 rfl fl_X3_31 g8 ?_
  refine wp_iload_n (n := 12) (i := 1) (q := 1) dX3_makes_11 rfl rfl rfl ?_
  refine wp_iload_n (n := 13) (i := 3) (q := 3) dX3_makes_12 rfl rfl rfl ?_
  refine wp_pI (n := 14) dX3_makes_13 rfl (pI_mono h (fun w13 h => ?_))
  refine wp_iconst (n := 15) (v := 0) dX3_makes_14 rfl (by decide) ?_
  refine wp_istore (n := 17) (i := 4) (ls' := [(4, vI 0), (0, vR (some h0)), (1, vI i1), (2, vI i2), (3, vI i3)]) dX3_makes_15 rfl (Nat.le_of_ble_eq_true rfl) rfl ?_
  exact wp_sub [1, 2, 3, 4, 0] rfl h
set_option maxHeartbeats 1000000 in
theorem sg_X3_makes_17 {h0 : Nat} {i1 : Int32} {i2 : Int32} {i3 : Int32} {i4 : Int32} {rc rs : Nat} {QR : Option aV → aW → Prop} {QX : String → aW → Prop} {w : aW} (h : (40 ≤ i4 → QR none w) ∧ (¬ 40 ≤ i4 → ∃ x25 : Nat, gf w h0 [3] 11 (vR (some x25)) ∧ pL w x25 ((40 * i1) + i4) 0 (fun w36 => wp (KX3_makes) rc rs QR QX 17 [(0, vR (some h0)), (1, vI i1), (2, vI i2), (3, vI i3), (4, vI (i4 + 1))] [] w36))) : wp (KX3_makes) rc rs QR QX 17 [(0, vR (some h0)), (1, vI i1), (2, vI i2), (3, vI i3), (4, vI i4)] [] w := by
  refine wp_iload (n := 19) (i := 4) (q := 4) dX3_makes_17 rfl rfl ?_
  refine wp_bipush (n := 21) (v := 40) dX3_makes_19 rfl (by decide) ?_
  refine wp_icmp_ge (n := 24) (t := 43) dX3_makes_21 rfl (by decide) (fun c21 => ?_) (fun c21 => ?_)
  · replace h := h.1 c21
    exact wp_return dX3_makes_43 rfl h
  · replace h := h.2 c21
    refine wp_aload_n (n := 25) (i := 0) (q := 0) dX3_makes_24 rfl rfl rfl ?_
    obtain ⟨x25, g25, h⟩ := h
    refine wp_gf (n := 28) dX3_makes_25 rfl fl_X3_34 g25 ?_
    refine wp_bipush (n := 30) (v := 40) dX3_makes_28 rfl (by decide) ?_
    refine wp_iload_n (n := 31) (i := 1) (q := 1) dX3_makes_30 rfl rfl rfl ?_
    refine wp_imul (n := 32) dX3_makes_31 rfl ?_
    refine wp_iload (n := 34) (i := 4) (q := 4) dX3_makes_32 rfl rfl ?_
    refine wp_iadd (n := 35) dX3_makes_34 rfl ?_
    refine wp_lconst (n := 36) (v := 0) dX3_makes_35 rfl (by decide) ?_
    refine wp_pL (n := 37) dX3_makes_36 rfl (pL_mono h (fun w36 h => ?_))
    refine wp_iinc (n := 40) (i := 4) (q := 4) (v := i4 + 1) (ls' := [(4, vI (i4 + 1)), (0, vR (some h0)), (1, vI i1), (2, vI i2), (3, vI i3)]) dX3_makes_37 rfl rfl rfl (Nat.le_of_ble_eq_true rfl) rfl ?_
    refine wp_goto (t := 17) dX3_makes_40 (by decide) ?_
    exact wp_sub [1, 2, 3, 4, 0] rfl h
set_option maxHeartbeats 1000000 in
theorem sg_X3_differ_0 {h0 : Nat} {i1 : Int32} {i2 : Int32} {i3 : Int32} {rc rs : Nat} {QR : Option aV → aW → Prop} {QX : String → aW → Prop} {w : aW} (h : ct (KX3_isSheet) 0 0 [vI i1] w (fun v1 w1 => ∃ x1 : Int32, v1 = some (vI x1) ∧ (¬ x1 = 0 → isO w1 h0 3 ∧ ct (KX3_askedSlots) 0 0 [vR (some h0), vI i2] w1 (fun v12 w12 => ∃ x12 : Int32, v12 = some (vI x12) ∧ (x12 = 0 → isO w12 h0 3 ∧ ct (KX3_askedSlots) 0 0 [vR (some h0), vI i3] w12 (fun v29 w29 => ∃ x29 : Int32, v29 = some (vI x29) ∧ (x29 = 0 → isO w29 h0 3 ∧ ct (KX3_makes) 0 0 [vR (some h0), vI i1, vI 1, vI 0] w29 (fun v46 w46 => v46 = none ∧ wp (KX3_differ) rc rs QR QX 55 [(0, vR (some h0)), (1, vI i1), (2, vI i2), (3, vI i3), (4, vI x29), (5, vI 0), (6, vI 0)] [] w46) (fun E46 w46 => False)) ∧ (¬ x29 = 0 → QR (some (vI x29)) w29)) (fun E29 w29 => False)) ∧ (¬ x12 = 0 → (x12 = 0 → isO w12 h0 3 ∧ ct (KX3_makes) 0 0 [vR (some h0), vI i1, vI 1, vI 0] w12 (fun v46 w46 => v46 = none ∧ wp (KX3_differ) rc rs QR QX 55 [(0, vR (some h0)), (1, vI i1), (2, vI i2), (3, vI i3), (4, vI x12), (5, vI 0), (6, vI 0)] [] w46) (fun E46 w46 => False)) ∧ (¬ x12 = 0 → QR (some (vI x12)) w12))) (fun E12 w12 => False)) ∧ (x1 = 0 → QR (some (vI (-2))) w1)) (fun E1 w1 => False)) : wp (KX3_differ) rc rs QR QX 0 [(0, vR (some h0)), (1, vI i1), (2, vI i2), (3, vI i3)] [] w := by
  refine wp_iload_n (n := 1) (i := 1) (q := 1) dX3_differ_0 rfl rfl rfl ?_
  refine wp_call (n := 4) (K' := KX3_isSheet) (rc' := rc) (rs' := rs) (aRun_S (K' := KX3_isSheet) (As := [vI i1]) (rest := []) dX3_differ_1 (aCal_of kf_X3_isSheet (Nat.le_of_ble_eq_true rfl)) rfl q1309 q1310 ar_X3_isSheet rfl (Nat.le_of_ble_eq_true rfl)) rfl (Nat.le_of_eq (Nat.zero_add _)) (Nat.le_of_eq (Nat.zero_add _)) (fun v1 w1 h => ?_) (fun E1 w1 h => ?_) h
  · obtain ⟨x1, rfl, h⟩ := h
    refine wp_if_ne (n := 7) (t := 10) dX3_differ_4 rfl (by decide) (fun c4 => ?_) (fun c4 => ?_)
    · replace h := h.1 c4
      refine wp_aload_n (n := 11) (i := 0) (q := 0) dX3_differ_10 rfl rfl rfl ?_
      refine wp_iload_n (n := 12) (i := 2) (q := 2) dX3_differ_11 rfl rfl rfl ?_
      obtain ⟨⟨fs12, o12⟩, h⟩ := h
      refine wp_call (n := 15) (K' := KX3_askedSlots) (rc' := rc) (rs' := rs) (aRun_V (K' := KX3_askedSlots) (As := [vI i2]) (rest := []) (b := h0) (c0 := .inr (3, fs12)) dX3_differ_12 (aCal_of kf_X3_askedSlots (Nat.le_of_ble_eq_true rfl)) q1216 q1218 qs72 ar_X3_askedSlots o12 (by decide : 3 < 9) rfl (Nat.le_of_ble_eq_true rfl)) rfl (Nat.le_of_eq (Nat.zero_add _)) (Nat.le_of_eq (Nat.zero_add _)) (fun v12 w12 h => ?_) (fun E12 w12 h => ?_) h
      · obtain ⟨x12, rfl, h⟩ := h
        refine wp_istore (n := 17) (i := 4) (ls' := [(4, vI x12), (0, vR (some h0)), (1, vI i1), (2, vI i2), (3, vI i3)]) dX3_differ_15 rfl (Nat.le_of_ble_eq_true rfl) rfl ?_
        refine wp_iload (n := 19) (i := 4) (q := 0) dX3_differ_17 rfl rfl ?_
        refine wp_if_eq (n := 22) (t := 27) dX3_differ_19 rfl (by decide) (fun c19 => ?_) (fun c19 => ?_)
        · replace h := h.1 c19
          refine wp_aload_n (n := 28) (i := 0) (q := 1) dX3_differ_27 rfl rfl rfl ?_
          refine wp_iload_n (n := 29) (i := 3) (q := 4) dX3_differ_28 rfl rfl rfl ?_
          obtain ⟨⟨fs29, o29⟩, h⟩ := h
          refine wp_call (n := 32) (K' := KX3_askedSlots) (rc' := rc) (rs' := rs) (aRun_V (K' := KX3_askedSlots) (As := [vI i3]) (rest := []) (b := h0) (c0 := .inr (3, fs29)) dX3_differ_29 (aCal_of kf_X3_askedSlots (Nat.le_of_ble_eq_true rfl)) q1216 q1218 qs72 ar_X3_askedSlots o29 (by decide : 3 < 9) rfl (Nat.le_of_ble_eq_true rfl)) rfl (Nat.le_of_eq (Nat.zero_add _)) (Nat.le_of_eq (Nat.zero_add _)) (fun v29 w29 h => ?_) (fun E29 w29 h => ?_) h
          · obtain ⟨x29, rfl, h⟩ := h
            refine wp_istore (n := 34) (i := 4) (ls' := [(4, vI x29), (0, vR (some h0)), (1, vI i1), (2, vI i2), (3, vI i3)]) dX3_differ_32 rfl (Nat.le_of_ble_eq_true rfl) rfl ?_
            refine wp_iload (n := 36) (i := 4) (q := 0) dX3_differ_34 rfl rfl ?_
            refine wp_if_eq (n := 39) (t := 42) dX3_differ_36 rfl (by decide) (fun c36 => ?_) (fun c36 => ?_)
            · replace h := h.1 c36
              refine wp_aload_n (n := 43) (i := 0) (q := 1) dX3_differ_42 rfl rfl rfl ?_
              refine wp_iload_n (n := 44) (i := 1) (q := 2) dX3_differ_43 rfl rfl rfl ?_
              refine wp_iconst (n := 45) (v := 1) dX3_differ_44 rfl (by decide) ?_
              refine wp_iconst (n := 46) (v := 0) dX3_differ_45 rfl (by decide) ?_
              obtain ⟨⟨fs46, o46⟩, h⟩ := h
              refine wp_call (n := 49) (K' := KX3_makes) (rc' := rc) (rs' := rs) (aRun_V (K' := KX3_makes) (As := [vI i1, vI 1, vI 0]) (rest := []) (b := h0) (c0 := .inr (3, fs46)) dX3_differ_46 (aCal_of kf_X3_makes (Nat.le_of_ble_eq_true rfl)) q1312 q1314 qs82 ar_X3_makes o46 (by decide : 3 < 9) rfl (Nat.le_of_ble_eq_true rfl)) rfl (Nat.le_of_eq (Nat.zero_add _)) (Nat.le_of_eq (Nat.zero_add _)) (fun v46 w46 h => ?_) (fun E46 w46 h => ?_) h
              · obtain ⟨rfl, h⟩ := h
                refine wp_iconst (n := 50) (v := 0) dX3_differ_49 rfl (by decide) ?_
                refine wp_istore (n := 52) (i := 5) (ls' := [(5, vI 0), (4, vI x29), (0, vR (some h0)), (1, vI i1), (2, vI i2), (3, vI i3)]) dX3_differ_50 rfl (Nat.le_of_ble_eq_true rfl) rfl ?_
                refine wp_iconst (n := 53) (v := 0) dX3_differ_52 rfl (by decide) ?_
                refine wp_istore (n := 55) (i := 6) (ls' := [(6, vI 0), (5, vI 0), (4, vI x29), (0, vR (some h0)), (1, vI i1), (2, vI i2), (3, vI i3)]) dX3_differ_53 rfl (Nat.le_of_ble_eq_true rfl) rfl ?_
                exact wp_sub [3, 4, 5, 6, 2, 1, 0] rfl h
              · exact h.elim
            · replace h := h.2 c36
              refine wp_iload (n := 41) (i := 4) (q := 0) dX3_differ_39 rfl rfl ?_
              exact wp_ireturn dX3_differ_41 rfl h
          · exact h.elim
        · replace h := h.2 c19
          refine wp_iload (n := 24) (i := 4) (q := 0) dX3_differ_22 rfl rfl ?_
          refine wp_goto (t := 32) dX3_differ_24 (by decide) ?_
          refine wp_istore (n := 34) (i := 4) (ls' := [(4, vI x12), (0, vR (some h0)), (1, vI i1), (2, vI i2), (3, vI i3)]) dX3_differ_32 rfl (Nat.le_of_ble_eq_true rfl) rfl ?_
          refine wp_iload (n := 36) (i := 4) (q := 0) dX3_differ_34 rfl rfl ?_
          refine wp_if_eq (n := 39) (t := 42) dX3_differ_36 rfl (by decide) (fun c36 => ?_) (fun c36 => ?_)
          · replace h := h.1 c36
            refine wp_aload_n (n := 43) (i := 0) (q := 1) dX3_differ_42 rfl rfl rfl ?_
            refine wp_iload_n (n := 44) (i := 1) (q := 2) dX3_differ_43 rfl rfl rfl ?_
            refine wp_iconst (n := 45) (v := 1) dX3_differ_44 rfl (by decide) ?_
            refine wp_iconst (n := 46) (v := 0) dX3_differ_45 rfl (by decide) ?_
            obtain ⟨⟨fs46, o46⟩, h⟩ := h
            refine wp_call (n := 49) (K' := KX3_makes) (rc' := rc) (rs' := rs) (aRun_V (K' := KX3_makes) (As := [vI i1, vI 1, vI 0]) (rest := []) (b := h0) (c0 := .inr (3, fs46)) dX3_differ_46 (aCal_of kf_X3_makes (Nat.le_of_ble_eq_true rfl)) q1312 q1314 qs82 ar_X3_makes o46 (by decide : 3 < 9) rfl (Nat.le_of_ble_eq_true rfl)) rfl (Nat.le_of_eq (Nat.zero_add _)) (Nat.le_of_eq (Nat.zero_add _)) (fun v46 w46 h => ?_) (fun E46 w46 h => ?_) h
            · obtain ⟨rfl, h⟩ := h
              refine wp_iconst (n := 50) (v := 0) dX3_differ_49 rfl (by decide) ?_
              refine wp_istore (n := 52) (i := 5) (ls' := [(5, vI 0), (4, vI x12), (0, vR (some h0)), (1, vI i1), (2, vI i2), (3, vI i3)]) dX3_differ_50 rfl (Nat.le_of_ble_eq_true rfl) rfl ?_
              refine wp_iconst (n := 53) (v := 0) dX3_differ_52 rfl (by decide) ?_
              refine wp_istore (n := 55) (i := 6) (ls' := [(6, vI 0), (5, vI 0), (4, vI x12), (0, vR (some h0)), (1, vI i1), (2, vI i2), (3, vI i3)]) dX3_differ_53 rfl (Nat.le_of_ble_eq_true rfl) rfl ?_
              exact wp_sub [3, 4, 5, 6, 2, 1, 0] rfl h
            · exact h.elim
          · replace h := h.2 c36
            refine wp_iload (n := 41) (i := 4) (q := 0) dX3_differ_39 rfl rfl ?_
            exact wp_ireturn dX3_differ_41 rfl h
      · exact h.elim
    · replace h := h.2 c4
      refine wp_bipush (n := 9) (v := (-2)) dX3_differ_7 rfl (by decide) ?_
      exact wp_ireturn dX3_differ_9 rfl h
  · exact h.elim
set_option maxHeartbeats 1000000 in
theorem sg_X3_differ_55 {h0 : Nat} {i1 : Int32} {i2 : Int32} {i3 : Int32} {i4 : Int32} {i5 : Int32} {i6 : Int32} {rc rs : Nat} {QR : Option aV → aW → Prop} {QX : String → aW → Prop} {w : aW} (h : (12 ≤ i6 → ∃ x142 : Nat, gf w h0 [3] 10 (vR (some x142)) ∧ pI w x142 i1 i5 (fun w148 => QR (some (vI i5)) w148)) ∧ (¬ 12 ≤ i6 → ∃ x63 : Nat, gf w h0 [3] 1 (vR (some x63)) ∧ ∃ x76 : Int32, gI w x63 ((122 + (12 * i2)) + i6) x76 ∧ ∃ x78 : Nat, gf w h0 [3] 1 (vR (some x78)) ∧ ∃ x91 : Int32, gI w x78 ((122 + (12 * i3)) + i6) x91 ∧ (x76 = x91 → wp (KX3_differ) rc rs QR QX 55 [(0, vR (some h0)), (1, vI i1), (2, vI i2), (3, vI i3), (4, vI i4), (5, vI i5), (6, vI (i6 + 1))] [] w) ∧ (¬ x76 = x91 → ∃ x96 : Nat, gf w h0 [3] 11 (vR (some x96)) ∧ pL w x96 ((40 * i1) + i5) (Int32.toInt64 i6) (fun w109 => ∃ x111 : Nat, gf w109 h0 [3] 11 (vR (some x111)) ∧ isO w109 h0 3 ∧ ct (KX3_sizeIn) 0 0 [vR (some h0), vI i3, vI i6] w109 (fun v127 w127 => ∃ x127 : Int32, v127 = some (vI x127) ∧ pL w127 x111 (((40 * i1) + i5) + 1) (Int32.toInt64 x127) (fun w131 => wp (KX3_differ) rc rs QR QX 55 [(0, vR (some h0)), (1, vI i1), (2, vI i2), (3, vI i3), (4, vI i4), (5, vI (i5 + 2)), (6, vI (i6 + 1))] [] w131)) (fun E127 w127 => False))))) : wp (KX3_differ) rc rs QR QX 55 [(0, vR (some h0)), (1, vI i1), (2, vI i2), (3, vI i3), (4, vI i4), (5, vI i5), (6, vI i6)] [] w := by
  refine wp_iload (n := 57) (i := 6) (q := 6) dX3_differ_55 rfl rfl ?_
  refine wp_bipush (n := 59) (v := 12) dX3_differ_57 rfl (by decide) ?_
  refine wp_icmp_ge (n := 62) (t := 141) dX3_differ_59 rfl (by decide) (fun c59 => ?_) (fun c59 => ?_)
  · replace h := h.1 c59
    refine wp_aload_n (n := 142) (i := 0) (q := 0) dX3_differ_141 rfl rfl rfl ?_
    obtain ⟨x142, g142, h⟩ := h
    refine wp_gf (n := 145) dX3_differ_142 rfl fl_X3_31 g142 ?_
    refine wp_iload_n (n := 146) (i := 1) (q := 1) dX3_differ_145 rfl rfl rfl ?_
    refine wp_iload (n := 148) (i := 5) (q := 5) dX3_differ_146 rfl rfl ?_
    refine wp_pI (n := 149) dX3_differ_148 rfl (pI_mono h (fun w148 h => ?_))
    refine wp_iload (n := 151) (i := 5) (q := 5) dX3_differ_149 rfl rfl ?_
    exact wp_ireturn dX3_differ_151 rfl h
  · replace h := h.2 c59
    refine wp_aload_n (n := 63) (i := 0) (q := 0) dX3_differ_62 rfl rfl rfl ?_
    obtain ⟨x63, g63, h⟩ := h
    refine wp_gf (n := 66) dX3_differ_63 rfl fl_X3_7 g63 ?_
    refine wp_bipush (n := 68) (v := 122) dX3_differ_66 rfl (by decide) ?_
    refine wp_bipush (n := 70) (v := 12) dX3_differ_68 rfl (by decide) ?_
    refine wp_iload_n (n := 71) (i := 2) (q := 2) dX3_differ_70 rfl rfl rfl ?_
    refine wp_imul (n := 72) dX3_differ_71 rfl ?_
    refine wp_iadd (n := 73) dX3_differ_72 rfl ?_
    refine wp_iload (n := 75) (i := 6) (q := 6) dX3_differ_73 rfl rfl ?_
    refine wp_iadd (n := 76) dX3_differ_75 rfl ?_
    obtain ⟨x76, g76, h⟩ := h
    refine wp_gI (n := 77) dX3_differ_76 rfl g76 ?_
    refine wp_aload_n (n := 78) (i := 0) (q := 0) dX3_differ_77 rfl rfl rfl ?_
    obtain ⟨x78, g78, h⟩ := h
    refine wp_gf (n := 81) dX3_differ_78 rfl fl_X3_7 g78 ?_
    refine wp_bipush (n := 83) (v := 122) dX3_differ_81 rfl (by decide) ?_
    refine wp_bipush (n := 85) (v := 12) dX3_differ_83 rfl (by decide) ?_
    refine wp_iload_n (n := 86) (i := 3) (q := 3) dX3_differ_85 rfl rfl rfl ?_
    refine wp_imul (n := 87) dX3_differ_86 rfl ?_
    refine wp_iadd (n := 88) dX3_differ_87 rfl ?_
    refine wp_iload (n := 90) (i := 6) (q := 6) dX3_differ_88 rfl rfl ?_
    refine wp_iadd (n := 91) dX3_differ_90 rfl ?_
    obtain ⟨x91, g91, h⟩ := h
    refine wp_gI (n := 92) dX3_differ_91 rfl g91 ?_
    refine wp_icmp_eq (n := 95) (t := 135) dX3_differ_92 rfl (by decide) (fun c92 => ?_) (fun c92 => ?_)
    · replace h := h.1 c92
      refine wp_iinc (n := 138) (i := 6) (q := 6) (v := i6 + 1) (ls' := [(6, vI (i6 + 1)), (0, vR (some h0)), (1, vI i1), (2, vI i2), (3, vI i3), (4, vI i4), (5, vI i5)]) dX3_differ_135 rfl rfl rfl (Nat.le_of_ble_eq_true rfl) rfl ?_
      refine wp_goto (t := 55) dX3_differ_138 (by decide) ?_
      exact wp_sub [1, 2, 3, 4, 5, 6, 0] rfl h
    · replace h := h.2 c92
      refine wp_aload_n (n := 96) (i := 0) (q := 0) dX3_differ_95 rfl rfl rfl ?_
      obtain ⟨x96, g96, h⟩ := h
      refine wp_gf (n := 99) dX3_differ_96 rfl fl_X3_34 g96 ?_
      refine wp_bipush (n := 101) (v := 40) dX3_differ_99 rfl (by decide) ?_
      refine wp_iload_n (n := 102) (i := 1) (q := 1) dX3_differ_101 rfl rfl rfl ?_
      refine wp_imul (n := 103) dX3_differ_102 rfl ?_
      refine wp_iload (n := 105) (i := 5) (q := 5) dX3_differ_103 rfl rfl ?_
      refine wp_iadd (n := 106) dX3_differ_105 rfl ?_
      refine wp_iload (n := 108) (i := 6) (q := 6) dX3_differ_106 rfl rfl ?_
      refine wp_i2l (n := 109) dX3_differ_108 rfl ?_
      refine wp_pL (n := 110) dX3_differ_109 rfl (pL_mono h (fun w109 h => ?_))
      refine wp_aload_n (n := 111) (i := 0) (q := 0) dX3_differ_110 rfl rfl rfl ?_
      obtain ⟨x111, g111, h⟩ := h
      refine wp_gf (n := 114) dX3_differ_111 rfl fl_X3_34 g111 ?_
      refine wp_bipush (n := 116) (v := 40) dX3_differ_114 rfl (by decide) ?_
      refine wp_iload_n (n := 117) (i := 1) (q := 1) dX3_differ_116 rfl rfl rfl ?_
      refine wp_imul (n := 118) dX3_differ_117 rfl ?_
      refine wp_iload (n := 120) (i := 5) (q := 5) dX3_differ_118 rfl rfl ?_
      refine wp_iadd (n := 121) dX3_differ_120 rfl ?_
      refine wp_iconst (n := 122) (v := 1) dX3_differ_121 rfl (by decide) ?_
      refine wp_iadd (n := 123) dX3_differ_122 rfl ?_
      refine wp_aload_n (n := 124) (i := 0) (q := 0) dX3_differ_123 rfl rfl rfl ?_
      refine wp_iload_n (n := 125) (i := 3) (q := 3) dX3_differ_124 rfl rfl rfl ?_
      refine wp_iload (n := 127) (i := 6) (q := 6) dX3_differ_125 rfl rfl ?_
      obtain ⟨⟨fs127, o127⟩, h⟩ := h
      refine wp_call (n := 130) (K' := KX3_sizeIn) (rc' := rc) (rs' := rs) (aRun_V (K' := KX3_sizeIn) (As := [vI i3, vI i6]) (rest := [vI (((40 * i1) + i5) + 1), vR (some x111)]) (b := h0) (c0 := .inr (3, fs127)) dX3_differ_127 (aCal_of kf_X3_sizeIn (Nat.le_of_ble_eq_true rfl)) q1119 q1121 qs59 ar_X3_sizeIn o127 (by decide : 3 < 9) rfl (Nat.le_of_ble_eq_true rfl)) rfl (Nat.le_of_eq (Nat.zero_add _)) (Nat.le_of_eq (Nat.zero_add _)) (fun v127 w127 h => ?_) (fun E127 w127 h => ?_) h
      · obtain ⟨x127, rfl, h⟩ := h
        refine wp_i2l (n := 131) dX3_differ_130 rfl ?_
        refine wp_pL (n := 132) dX3_differ_131 rfl (pL_mono h (fun w131 h => ?_))
        refine wp_iinc (n := 135) (i := 5) (q := 5) (v := i5 + 2) (ls' := [(5, vI (i5 + 2)), (0, vR (some h0)), (1, vI i1), (2, vI i2), (3, vI i3), (4, vI i4), (6, vI i6)]) dX3_differ_132 rfl rfl rfl (Nat.le_of_ble_eq_true rfl) rfl ?_
        refine wp_iinc (n := 138) (i := 6) (q := 6) (v := i6 + 1) (ls' := [(6, vI (i6 + 1)), (5, vI (i5 + 2)), (0, vR (some h0)), (1, vI i1), (2, vI i2), (3, vI i3), (4, vI i4)]) dX3_differ_135 rfl rfl rfl (Nat.le_of_ble_eq_true rfl) rfl ?_
        refine wp_goto (t := 55) dX3_differ_138 (by decide) ?_
        exact wp_sub [2, 3, 4, 5, 6, 1, 0] rfl h
      · exact h.elim
set_option maxHeartbeats 1000000 in
theorem sg_X3_lots_0 {h0 : Nat} {rc rs : Nat} {QR : Option aV → aW → Prop} {QX : String → aW → Prop} {w : aW} (h : ∃ x2 : Int32, gf w h0 [3] 12 (vI x2) ∧ pf w h0 [3] 12 (vI ((x2 * 1103515245) + 12345)) (fun w12 => ∃ x16 : Int32, gf w12 h0 [3] 12 (vI x16) ∧ QR (some (vI (((x16.toUInt32 >>> (Int32.toUInt32 9 &&& Int32.toUInt32 31)).toInt32) - ((x16.toUInt32 >>> (Int32.toUInt32 9 &&& Int32.toUInt32 31)).toInt32) / 24 * 24))) w12)) : wp (KX3_lots) rc rs QR QX 0 [(0, vR (some h0))] [] w := by
  refine wp_aload_n (n := 1) (i := 0) (q := 0) dX3_lots_0 rfl rfl rfl ?_
  refine wp_aload_n (n := 2) (i := 0) (q := 0) dX3_lots_1 rfl rfl rfl ?_
  obtain ⟨x2, g2, h⟩ := h
  refine wp_gf (n := 5) dX3_lots_2 rfl fl_X3_173 g2 ?_
  refine wp_ldc (n := 7) dX3_lots_5 rfl q1346 ?_
  refine wp_imul (n := 8) dX3_lots_7 rfl ?_
  refine wp_sipush (n := 11) (v := 12345) dX3_lots_8 rfl (by decide) ?_
  refine wp_iadd (n := 12) dX3_lots_11 rfl ?_
  refine wp_pf (n := 15) dX3_lots_12 rfl (pt_X3_173 _) rfl rfl (pf_mono h (fun w12 h => ?_))
  refine wp_aload_n (n := 16) (i := 0) (q := 0) dX3_lots_15 rfl rfl rfl ?_
  obtain ⟨x16, g16, h⟩ := h
  refine wp_gf (n := 19) dX3_lots_16 rfl fl_X3_173 g16 ?_
  refine wp_bipush (n := 21) (v := 9) dX3_lots_19 rfl (by decide) ?_
  refine wp_iushr (n := 22) (z := (x16.toUInt32 >>> (Int32.toUInt32 9 &&& Int32.toUInt32 31)).toInt32) dX3_lots_21 rfl rfl ?_
  refine wp_bipush (n := 24) (v := 24) dX3_lots_22 rfl (by decide) ?_
  refine wp_irem (n := 25) dX3_lots_24 rfl (by decide) ?_
  exact wp_ireturn dX3_lots_25 rfl h
set_option maxHeartbeats 1000000 in
theorem sg_X3_write_0 {h0 : Nat} {i1 : Int32} {i2 : Int32} {i3 : Int32} {rc rs : Nat} {QR : Option aV → aW → Prop} {QX : String → aW → Prop} {w : aW} (h : ct (KX3_in) 0 0 [vI i2, vI 0, vI 11] w (fun v4 w4 => ∃ x4 : Int32, v4 = some (vI x4) ∧ (x4 = 0 → QR (some (vI (-2))) w4) ∧ (¬ x4 = 0 → ct (KX3_in) 0 0 [vI i3, vI 1, vI 1000000000] w4 (fun v14 w14 => ∃ x14 : Int32, v14 = some (vI x14) ∧ (¬ x14 = 0 → isO w14 h0 3 ∧ ct (KX3_asked) 0 0 [vR (some h0), vI i1, vI 0] w14 (fun v26 w26 => ∃ x26 : Int32, v26 = some (vI x26) ∧ (x26 = 0 → isO w26 h0 3 ∧ ct (KX3_written) 0 0 [vR (some h0), vI i1, vI i2, vI i3] w26 (fun v45 w45 => ∃ x45 : Int32, v45 = some (vI x45) ∧ QR (some (vI x45)) w45) (fun E45 w45 => False)) ∧ (¬ x26 = 0 → QR (some (vI x26)) w26)) (fun E26 w26 => False)) ∧ (x14 = 0 → QR (some (vI (-2))) w14)) (fun E14 w14 => False))) (fun E4 w4 => False)) : wp (KX3_write) rc rs QR QX 0 [(0, vR (some h0)), (1, vI i1), (2, vI i2), (3, vI i3)] [] w := by
  refine wp_iload_n (n := 1) (i := 2) (q := 2) dX3_write_0 rfl rfl rfl ?_
  refine wp_iconst (n := 2) (v := 0) dX3_write_1 rfl (by decide) ?_
  refine wp_bipush (n := 4) (v := 11) dX3_write_2 rfl (by decide) ?_
  refine wp_call (n := 7) (K' := KX3_in) (rc' := rc) (rs' := rs) (aRun_S (K' := KX3_in) (As := [vI i2, vI 0, vI 11]) (rest := []) dX3_write_4 (aCal_of kf_X3_in (Nat.le_of_ble_eq_true rfl)) rfl q1077 q1078 ar_X3_in rfl (Nat.le_of_ble_eq_true rfl)) rfl (Nat.le_of_eq (Nat.zero_add _)) (Nat.le_of_eq (Nat.zero_add _)) (fun v4 w4 h => ?_) (fun E4 w4 h => ?_) h
  · obtain ⟨x4, rfl, h⟩ := h
    refine wp_if_eq (n := 10) (t := 20) dX3_write_7 rfl (by decide) (fun c7 => ?_) (fun c7 => ?_)
    · replace h := h.1 c7
      refine wp_bipush (n := 22) (v := (-2)) dX3_write_20 rfl (by decide) ?_
      exact wp_ireturn dX3_write_22 rfl h
    · replace h := h.2 c7
      refine wp_iload_n (n := 11) (i := 3) (q := 3) dX3_write_10 rfl rfl rfl ?_
      refine wp_iconst (n := 12) (v := 1) dX3_write_11 rfl (by decide) ?_
      refine wp_ldc (n := 14) dX3_write_12 rfl q1076 ?_
      refine wp_call (n := 17) (K' := KX3_in) (rc' := rc) (rs' := rs) (aRun_S (K' := KX3_in) (As := [vI i3, vI 1, vI 1000000000]) (rest := []) dX3_write_14 (aCal_of kf_X3_in (Nat.le_of_ble_eq_true rfl)) rfl q1077 q1078 ar_X3_in rfl (Nat.le_of_ble_eq_true rfl)) rfl (Nat.le_of_eq (Nat.zero_add _)) (Nat.le_of_eq (Nat.zero_add _)) (fun v14 w14 h => ?_) (fun E14 w14 h => ?_) h
      · obtain ⟨x14, rfl, h⟩ := h
        refine wp_if_ne (n := 20) (t := 23) dX3_write_17 rfl (by decide) (fun c17 => ?_) (fun c17 => ?_)
        · replace h := h.1 c17
          refine wp_aload_n (n := 24) (i := 0) (q := 0) dX3_write_23 rfl rfl rfl ?_
          refine wp_iload_n (n := 25) (i := 1) (q := 1) dX3_write_24 rfl rfl rfl ?_
          refine wp_iconst (n := 26) (v := 0) dX3_write_25 rfl (by decide) ?_
          obtain ⟨⟨fs26, o26⟩, h⟩ := h
          refine wp_call (n := 29) (K' := KX3_asked) (rc' := rc) (rs' := rs) (aRun_V (K' := KX3_asked) (As := [vI i1, vI 0]) (rest := []) (b := h0) (c0 := .inr (3, fs26)) dX3_write_26 (aCal_of kf_X3_asked (Nat.le_of_ble_eq_true rfl)) q1092 q1094 qs53 ar_X3_asked o26 (by decide : 3 < 9) rfl (Nat.le_of_ble_eq_true rfl)) rfl (Nat.le_of_eq (Nat.zero_add _)) (Nat.le_of_eq (Nat.zero_add _)) (fun v26 w26 h => ?_) (fun E26 w26 h => ?_) h
          · obtain ⟨x26, rfl, h⟩ := h
            refine wp_istore (n := 31) (i := 4) (ls' := [(4, vI x26), (0, vR (some h0)), (1, vI i1), (2, vI i2), (3, vI i3)]) dX3_write_29 rfl (Nat.le_of_ble_eq_true rfl) rfl ?_
            refine wp_iload (n := 33) (i := 4) (q := 0) dX3_write_31 rfl rfl ?_
            refine wp_if_eq (n := 36) (t := 41) dX3_write_33 rfl (by decide) (fun c33 => ?_) (fun c33 => ?_)
            · replace h := h.1 c33
              refine wp_aload_n (n := 42) (i := 0) (q := 1) dX3_write_41 rfl rfl rfl ?_
              refine wp_iload_n (n := 43) (i := 1) (q := 2) dX3_write_42 rfl rfl rfl ?_
              refine wp_iload_n (n := 44) (i := 2) (q := 3) dX3_write_43 rfl rfl rfl ?_
              refine wp_iload_n (n := 45) (i := 3) (q := 4) dX3_write_44 rfl rfl rfl ?_
              obtain ⟨⟨fs45, o45⟩, h⟩ := h
              refine wp_call (n := 48) (K' := KX3_written) (rc' := rc) (rs' := rs) (aRun_V (K' := KX3_written) (As := [vI i1, vI i2, vI i3]) (rest := []) (b := h0) (c0 := .inr (3, fs45)) dX3_write_45 (aCal_of kf_X3_written (Nat.le_of_ble_eq_true rfl)) q1107 q1109 qs56 ar_X3_written o45 (by decide : 3 < 9) rfl (Nat.le_of_ble_eq_true rfl)) rfl (Nat.le_of_eq (Nat.zero_add _)) (Nat.le_of_eq (Nat.zero_add _)) (fun v45 w45 h => ?_) (fun E45 w45 h => ?_) h
              · obtain ⟨x45, rfl, h⟩ := h
                exact wp_ireturn dX3_write_48 rfl h
              · exact h.elim
            · replace h := h.2 c33
              refine wp_iload (n := 38) (i := 4) (q := 0) dX3_write_36 rfl rfl ?_
              refine wp_goto (t := 48) dX3_write_38 (by decide) ?_
              exact wp_ireturn dX3_write_48 rfl h
          · exact h.elim
        · replace h := h.2 c17
          refine wp_bipush (n := 22) (v := (-2)) dX3_write_20 rfl (by decide) ?_
          exact wp_ireturn dX3_write_22 rfl h
      · exact h.elim
  · exact h.elim
set_option maxHeartbeats 1000000 in
theorem sg_X3_erase_0 {h0 : Nat} {i1 : Int32} {i2 : Int32} {rc rs : Nat} {QR : Option aV → aW → Prop} {QX : String → aW → Prop} {w : aW} (h : ct (KX3_in) 0 0 [vI i2, vI 0, vI 11] w (fun v4 w4 => ∃ x4 : Int32, v4 = some (vI x4) ∧ (¬ x4 = 0 → isO w4 h0 3 ∧ ct (KX3_asked) 0 0 [vR (some h0), vI i1, vI 0] w4 (fun v16 w16 => ∃ x16 : Int32, v16 = some (vI x16) ∧ (x16 = 0 → isO w16 h0 3 ∧ ct (KX3_erased) 0 0 [vR (some h0), vI i1, vI i2] w16 (fun v31 w31 => ∃ x31 : Int32, v31 = some (vI x31) ∧ QR (some (vI x31)) w31) (fun E31 w31 => False)) ∧ (¬ x16 = 0 → QR (some (vI x16)) w16)) (fun E16 w16 => False)) ∧ (x4 = 0 → QR (some (vI (-2))) w4)) (fun E4 w4 => False)) : wp (KX3_erase) rc rs QR QX 0 [(0, vR (some h0)), (1, vI i1), (2, vI i2)] [] w := by
  refine wp_iload_n (n := 1) (i := 2) (q := 2) dX3_erase_0 rfl rfl rfl ?_
  refine wp_iconst (n := 2) (v := 0) dX3_erase_1 rfl (by decide) ?_
  refine wp_bipush (n := 4) (v := 11) dX3_erase_2 rfl (by decide) ?_
  refine wp_call (n := 7) (K' := KX3_in) (rc' := rc) (rs' := rs) (aRun_S (K' := KX3_in) (As := [vI i2, vI 0, vI 11]) (rest := []) dX3_erase_4 (aCal_of kf_X3_in (Nat.le_of_ble_eq_true rfl)) rfl q1077 q1078 ar_X3_in rfl (Nat.le_of_ble_eq_true rfl)) rfl (Nat.le_of_eq (Nat.zero_add _)) (Nat.le_of_eq (Nat.zero_add _)) (fun v4 w4 h => ?_) (fun E4 w4 h => ?_) h
  · obtain ⟨x4, rfl, h⟩ := h
    refine wp_if_ne (n := 10) (t := 13) dX3_erase_7 rfl (by decide) (fun c7 => ?_) (fun c7 => ?_)
    · replace h := h.1 c7
      refine wp_aload_n (n := 14) (i := 0) (q := 0) dX3_erase_13 rfl rfl rfl ?_
      refine wp_iload_n (n := 15) (i := 1) (q := 1) dX3_erase_14 rfl rfl rfl ?_
      refine wp_iconst (n := 16) (v := 0) dX3_erase_15 rfl (by decide) ?_
      obtain ⟨⟨fs16, o16⟩, h⟩ := h
      refine wp_call (n := 19) (K' := KX3_asked) (rc' := rc) (rs' := rs) (aRun_V (K' := KX3_asked) (As := [vI i1, vI 0]) (rest := []) (b := h0) (c0 := .inr (3, fs16)) dX3_erase_16 (aCal_of kf_X3_asked (Nat.le_of_ble_eq_true rfl)) q1092 q1094 qs53 ar_X3_asked o16 (by decide : 3 < 9) rfl (Nat.le_of_ble_eq_true rfl)) rfl (Nat.le_of_eq (Nat.zero_add _)) (Nat.le_of_eq (Nat.zero_add _)) (fun v16 w16 h => ?_) (fun E16 w16 h => ?_) h
      · obtain ⟨x16, rfl, h⟩ := h
        refine wp_istore_n (n := 20) (i := 3) (ls' := [(3, vI x16), (0, vR (some h0)), (1, vI i1), (2, vI i2)]) dX3_erase_19 rfl rfl (Nat.le_of_ble_eq_true rfl) rfl ?_
        refine wp_iload_n (n := 21) (i := 3) (q := 0) dX3_erase_20 rfl rfl rfl ?_
        refine wp_if_eq (n := 24) (t := 28) dX3_erase_21 rfl (by decide) (fun c21 => ?_) (fun c21 => ?_)
        · replace h := h.1 c21
          refine wp_aload_n (n := 29) (i := 0) (q := 1) dX3_erase_28 rfl rfl rfl ?_
          refine wp_iload_n (n := 30) (i := 1) (q := 2) dX3_erase_29 rfl rfl rfl ?_
          refine wp_iload_n (n := 31) (i := 2) (q := 3) dX3_erase_30 rfl rfl rfl ?_
          obtain ⟨⟨fs31, o31⟩, h⟩ := h
          refine wp_call (n := 34) (K' := KX3_erased) (rc' := rc) (rs' := rs) (aRun_V (K' := KX3_erased) (As := [vI i1, vI i2]) (rest := []) (b := h0) (c0 := .inr (3, fs31)) dX3_erase_31 (aCal_of kf_X3_erased (Nat.le_of_ble_eq_true rfl)) q1147 q1149 qs65 ar_X3_erased o31 (by decide : 3 < 9) rfl (Nat.le_of_ble_eq_true rfl)) rfl (Nat.le_of_eq (Nat.zero_add _)) (Nat.le_of_eq (Nat.zero_add _)) (fun v31 w31 h => ?_) (fun E31 w31 h => ?_) h
          · obtain ⟨x31, rfl, h⟩ := h
            exact wp_ireturn dX3_erase_34 rfl h
          · exact h.elim
        · replace h := h.2 c21
          refine wp_iload_n (n := 25) (i := 3) (q := 0) dX3_erase_24 rfl rfl rfl ?_
          refine wp_goto (t := 34) dX3_erase_25 (by decide) ?_
          exact wp_ireturn dX3_erase_34 rfl h
      · exact h.elim
    · replace h := h.2 c7
      refine wp_bipush (n := 12) (v := (-2)) dX3_erase_10 rfl (by decide) ?_
      exact wp_ireturn dX3_erase_12 rfl h
  · exact h.elim
set_option maxHeartbeats 1000000 in
theorem sg_X3_takesSlots_0 {h0 : Nat} {i1 : Int32} {i2 : Int32} {rc rs : Nat} {QR : Option aV → aW → Prop} {QX : String → aW → Prop} {w : aW} (h : wp (KX3_takesSlots) rc rs QR QX 2 [(0, vR (some h0)), (1, vI i1), (2, vI i2), (3, vI 0)] [] w) : wp (KX3_takesSlots) rc rs QR QX 0 [(0, vR (some h0)), (1, vI i1), (2, vI i2)] [] w := by
  refine wp_iconst (n := 1) (v := 0) dX3_takesSlots_0 rfl (by decide) ?_
  refine wp_istore_n (n := 2) (i := 3) (ls' := [(3, vI 0), (0, vR (some h0)), (1, vI i1), (2, vI i2)]) dX3_takesSlots_1 rfl rfl (Nat.le_of_ble_eq_true rfl) rfl ?_
  exact wp_sub [1, 2, 3, 0] rfl h
set_option maxHeartbeats 1000000 in
theorem sg_X3_takesSlots_2 {h0 : Nat} {i1 : Int32} {i2 : Int32} {i3 : Int32} {rc rs : Nat} {QR : Option aV → aW → Prop} {QX : String → aW → Prop} {w : aW} (h : (12 ≤ i3 → QR none w) ∧ (¬ 12 ≤ i3 → ∃ x9 : Nat, gf w h0 [3] 1 (vR (some x9)) ∧ ∃ x22 : Nat, gf w h0 [3] 1 (vR (some x22)) ∧ ∃ x34 : Int32, gI w x22 ((122 + (12 * i2)) + i3) x34 ∧ pI w x9 ((122 + (12 * i1)) + i3) x34 (fun w35 => wp (KX3_takesSlots) rc rs QR QX 2 [(0, vR (some h0)), (1, vI i1), (2, vI i2), (3, vI (i3 + 1))] [] w35))) : wp (KX3_takesSlots) rc rs QR QX 2 [(0, vR (some h0)), (1, vI i1), (2, vI i2), (3, vI i3)] [] w := by
  refine wp_iload_n (n := 3) (i := 3) (q := 3) dX3_takesSlots_2 rfl rfl rfl ?_
  refine wp_bipush (n := 5) (v := 12) dX3_takesSlots_3 rfl (by decide) ?_
  refine wp_icmp_ge (n := 8) (t := 42) dX3_takesSlots_5 rfl (by decide) (fun c5 => ?_) (fun c5 => ?_)
  · replace h := h.1 c5
    exact wp_return dX3_takesSlots_42 rfl h
  · replace h := h.2 c5
    refine wp_aload_n (n := 9) (i := 0) (q := 0) dX3_takesSlots_8 rfl rfl rfl ?_
    obtain ⟨x9, g9, h⟩ := h
    refine wp_gf (n := 12) dX3_takesSlots_9 rfl fl_X3_7 g9 ?_
    refine wp_bipush (n := 14) (v := 122) dX3_takesSlots_12 rfl (by decide) ?_
    refine wp_bipush (n := 16) (v := 12) dX3_takesSlots_14 rfl (by decide) ?_
    refine wp_iload_n (n := 17) (i := 1) (q := 1) dX3_takesSlots_16 rfl rfl rfl ?_
    refine wp_imul (n := 18) dX3_takesSlots_17 rfl ?_
    refine wp_iadd (n := 19) dX3_takesSlots_18 rfl ?_
    refine wp_iload_n (n := 20) (i := 3) (q := 3) dX3_takesSlots_19 rfl rfl rfl ?_
    refine wp_iadd (n := 21) dX3_takesSlots_20 rfl ?_
    refine wp_aload_n (n := 22) (i := 0) (q := 0) dX3_takesSlots_21 rfl rfl rfl ?_
    obtain ⟨x22, g22, h⟩ := h
    refine wp_gf (n := 25) dX3_takesSlots_22 rfl fl_X3_7 g22 ?_
    refine wp_bipush (n := 27) (v := 122) dX3_takesSlots_25 rfl (by decide) ?_
    refine wp_bipush (n := 29) (v := 12) dX3_takesSlots_27 rfl (by decide) ?_
    refine wp_iload_n (n := 30) (i := 2) (q := 2) dX3_takesSlots_29 rfl rfl rfl ?_
    refine wp_imul (n := 31) dX3_takesSlots_30 rfl ?_
    refine wp_iadd (n := 32) dX3_takesSlots_31 rfl ?_
    refine wp_iload_n (n := 33) (i := 3) (q := 3) dX3_takesSlots_32 rfl rfl rfl ?_
    refine wp_iadd (n := 34) dX3_takesSlots_33 rfl ?_
    obtain ⟨x34, g34, h⟩ := h
    refine wp_gI (n := 35) dX3_takesSlots_34 rfl g34 ?_
    refine wp_pI (n := 36) dX3_takesSlots_35 rfl (pI_mono h (fun w35 h => ?_))
    refine wp_iinc (n := 39) (i := 3) (q := 3) (v := i3 + 1) (ls' := [(3, vI (i3 + 1)), (0, vR (some h0)), (1, vI i1), (2, vI i2)]) dX3_takesSlots_36 rfl rfl rfl (Nat.le_of_ble_eq_true rfl) rfl ?_
    refine wp_goto (t := 2) dX3_takesSlots_39 (by decide) ?_
    exact wp_sub [1, 2, 3, 0] rfl h
set_option maxHeartbeats 1000000 in
theorem sg_X3_snap_0 {h0 : Nat} {i1 : Int32} {i2 : Int32} {rc rs : Nat} {QR : Option aV → aW → Prop} {QX : String → aW → Prop} {w : aW} (h : ct (KX3_in) 0 0 [vI i2, vI 0, vI 1] w (fun v3 w3 => ∃ x3 : Int32, v3 = some (vI x3) ∧ (¬ x3 = 0 → isO w3 h0 3 ∧ ct (KX3_asked) 0 0 [vR (some h0), vI i1, vI 0] w3 (fun v15 w15 => ∃ x15 : Int32, v15 = some (vI x15) ∧ (x15 = 0 → isO w15 h0 3 ∧ ct (KX3_newThing) 0 0 [vR (some h0)] w15 (fun v26 w26 => ∃ x26 : Int32, v26 = some (vI x26) ∧ (¬ x26 = 20 → ∃ x42 : Nat, gf w26 h0 [3] 1 (vR (some x42)) ∧ ∃ x46 : Int32, gI w26 x42 0 x46 ∧ isO w26 h0 3 ∧ ct (KX3_comes) 0 0 [vR (some h0), vI (2 + i2), vI x46] w26 (fun v47 w47 => ∃ x47 : Int32, v47 = some (vI x47) ∧ isO w47 h0 3 ∧ ct (KX3_takesSlots) 0 0 [vR (some h0), vI x47, vI i1] w47 (fun v56 w56 => v56 = none ∧ ∃ x60 : Nat, gf w56 h0 [3] 1 (vR (some x60)) ∧ ∃ x69 : Nat, gf w56 h0 [3] 1 (vR (some x69)) ∧ ∃ x76 : Int32, gI w56 x69 (42 + i1) x76 ∧ pI w56 x60 (42 + x47) x76 (fun w77 => ∃ x79 : Nat, gf w77 h0 [3] 1 (vR (some x79)) ∧ pI w77 x79 (42 + i1) x47 (fun w88 => ∃ x90 : Nat, gf w88 h0 [3] 1 (vR (some x90)) ∧ pI w88 x90 (62 + x47) i1 (fun w99 => ∃ x101 : Nat, gf w99 h0 [3] 1 (vR (some x101)) ∧ pI w99 x101 (102 + x47) i2 (fun w110 => ∃ x112 : Nat, gf w110 h0 [3] 1 (vR (some x112)) ∧ ∃ x117 : Int32, gI w110 x112 0 x117 ∧ pI w110 x112 0 (x117 + 1) (fun w120 => QR (some (vI x47)) w120)))))) (fun E56 w56 => False)) (fun E47 w47 => False)) ∧ (x26 = 20 → QR (some (vI (-4))) w26)) (fun E26 w26 => False)) ∧ (¬ x15 = 0 → QR (some (vI x15)) w15)) (fun E15 w15 => False)) ∧ (x3 = 0 → QR (some (vI (-2))) w3)) (fun E3 w3 => False)) : wp (KX3_snap) rc rs QR QX 0 [(0, vR (some h0)), (1, vI i1), (2, vI i2)] [] w := by
  refine wp_iload_n (n := 1) (i := 2) (q := 2) dX3_snap_0 rfl rfl rfl ?_
  refine wp_iconst (n := 2) (v := 0) dX3_snap_1 rfl (by decide) ?_
  refine wp_iconst (n := 3) (v := 1) dX3_snap_2 rfl (by decide) ?_
  refine wp_call (n := 6) (K' := KX3_in) (rc' := rc) (rs' := rs) (aRun_S (K' := KX3_in) (As := [vI i2, vI 0, vI 1]) (rest := []) dX3_snap_3 (aCal_of kf_X3_in (Nat.le_of_ble_eq_true rfl)) rfl q1077 q1078 ar_X3_in rfl (Nat.le_of_ble_eq_true rfl)) rfl (Nat.le_of_eq (Nat.zero_add _)) (Nat.le_of_eq (Nat.zero_add _)) (fun v3 w3 h => ?_) (fun E3 w3 h => ?_) h
  · obtain ⟨x3, rfl, h⟩ := h
    refine wp_if_ne (n := 9) (t := 12) dX3_snap_6 rfl (by decide) (fun c6 => ?_) (fun c6 => ?_)
    · replace h := h.1 c6
      refine wp_aload_n (n := 13) (i := 0) (q := 0) dX3_snap_12 rfl rfl rfl ?_
      refine wp_iload_n (n := 14) (i := 1) (q := 1) dX3_snap_13 rfl rfl rfl ?_
      refine wp_iconst (n := 15) (v := 0) dX3_snap_14 rfl (by decide) ?_
      obtain ⟨⟨fs15, o15⟩, h⟩ := h
      refine wp_call (n := 18) (K' := KX3_asked) (rc' := rc) (rs' := rs) (aRun_V (K' := KX3_asked) (As := [vI i1, vI 0]) (rest := []) (b := h0) (c0 := .inr (3, fs15)) dX3_snap_15 (aCal_of kf_X3_asked (Nat.le_of_ble_eq_true rfl)) q1092 q1094 qs53 ar_X3_asked o15 (by decide : 3 < 9) rfl (Nat.le_of_ble_eq_true rfl)) rfl (Nat.le_of_eq (Nat.zero_add _)) (Nat.le_of_eq (Nat.zero_add _)) (fun v15 w15 h => ?_) (fun E15 w15 h => ?_) h
      · obtain ⟨x15, rfl, h⟩ := h
        refine wp_istore_n (n := 19) (i := 3) (ls' := [(3, vI x15), (0, vR (some h0)), (1, vI i1), (2, vI i2)]) dX3_snap_18 rfl rfl (Nat.le_of_ble_eq_true rfl) rfl ?_
        refine wp_iload_n (n := 20) (i := 3) (q := 0) dX3_snap_19 rfl rfl rfl ?_
        refine wp_if_eq (n := 23) (t := 25) dX3_snap_20 rfl (by decide) (fun c20 => ?_) (fun c20 => ?_)
        · replace h := h.1 c20
          refine wp_aload_n (n := 26) (i := 0) (q := 1) dX3_snap_25 rfl rfl rfl ?_
          obtain ⟨⟨fs26, o26⟩, h⟩ := h
          refine wp_call (n := 29) (K' := KX3_newThing) (rc' := rc) (rs' := rs) (aRun_V (K' := KX3_newThing) (As := []) (rest := []) (b := h0) (c0 := .inr (3, fs26)) dX3_snap_26 (aCal_of kf_X3_newThing (Nat.le_of_ble_eq_true rfl)) q1080 q1082 qs51 ar_X3_newThing o26 (by decide : 3 < 9) rfl (Nat.le_of_ble_eq_true rfl)) rfl (Nat.le_of_eq (Nat.zero_add _)) (Nat.le_of_eq (Nat.zero_add _)) (fun v26 w26 h => ?_) (fun E26 w26 h => ?_) h
          · obtain ⟨x26, rfl, h⟩ := h
            refine wp_bipush (n := 31) (v := 20) dX3_snap_29 rfl (by decide) ?_
            refine wp_icmp_ne (n := 34) (t := 37) dX3_snap_31 rfl (by decide) (fun c31 => ?_) (fun c31 => ?_)
            · replace h := h.1 c31
              refine wp_aload_n (n := 38) (i := 0) (q := 1) dX3_snap_37 rfl rfl rfl ?_
              refine wp_iconst (n := 39) (v := 2) dX3_snap_38 rfl (by decide) ?_
              refine wp_iload_n (n := 40) (i := 2) (q := 3) dX3_snap_39 rfl rfl rfl ?_
              refine wp_iadd (n := 41) dX3_snap_40 rfl ?_
              refine wp_aload_n (n := 42) (i := 0) (q := 1) dX3_snap_41 rfl rfl rfl ?_
              obtain ⟨x42, g42, h⟩ := h
              refine wp_gf (n := 45) dX3_snap_42 rfl fl_X3_7 g42 ?_
              refine wp_iconst (n := 46) (v := 0) dX3_snap_45 rfl (by decide) ?_
              obtain ⟨x46, g46, h⟩ := h
              refine wp_gI (n := 47) dX3_snap_46 rfl g46 ?_
              obtain ⟨⟨fs47, o47⟩, h⟩ := h
              refine wp_call (n := 50) (K' := KX3_comes) (rc' := rc) (rs' := rs) (aRun_V (K' := KX3_comes) (As := [vI (2 + i2), vI x46]) (rest := []) (b := h0) (c0 := .inr (3, fs47)) dX3_snap_47 (aCal_of kf_X3_comes (Nat.le_of_ble_eq_true rfl)) q1084 q1086 qs52 ar_X3_comes o47 (by decide : 3 < 9) rfl (Nat.le_of_ble_eq_true rfl)) rfl (Nat.le_of_eq (Nat.zero_add _)) (Nat.le_of_eq (Nat.zero_add _)) (fun v47 w47 h => ?_) (fun E47 w47 h => ?_) h
              · obtain ⟨x47, rfl, h⟩ := h
                refine wp_istore (n := 52) (i := 4) (ls' := [(4, vI x47), (3, vI x15), (0, vR (some h0)), (1, vI i1), (2, vI i2)]) dX3_snap_50 rfl (Nat.le_of_ble_eq_true rfl) rfl ?_
                refine wp_aload_n (n := 53) (i := 0) (q := 2) dX3_snap_52 rfl rfl rfl ?_
                refine wp_iload (n := 55) (i := 4) (q := 0) dX3_snap_53 rfl rfl ?_
                refine wp_iload_n (n := 56) (i := 1) (q := 3) dX3_snap_55 rfl rfl rfl ?_
                obtain ⟨⟨fs56, o56⟩, h⟩ := h
                refine wp_call (n := 59) (K' := KX3_takesSlots) (rc' := rc) (rs' := rs) (aRun_V (K' := KX3_takesSlots) (As := [vI x47, vI i1]) (rest := []) (b := h0) (c0 := .inr (3, fs56)) dX3_snap_56 (aCal_of kf_X3_takesSlots (Nat.le_of_ble_eq_true rfl)) q1155 q1157 qs66 ar_X3_takesSlots o56 (by decide : 3 < 9) rfl (Nat.le_of_ble_eq_true rfl)) rfl (Nat.le_of_eq (Nat.zero_add _)) (Nat.le_of_eq (Nat.zero_add _)) (fun v56 w56 h => ?_) (fun E56 w56 h => ?_) h
                · obtain ⟨rfl, h⟩ := h
                  refine wp_aload_n (n := 60) (i := 0) (q := 2) dX3_snap_59 rfl rfl rfl ?_
                  obtain ⟨x60, g60, h⟩ := h
                  refine wp_gf (n := 63) dX3_snap_60 rfl fl_X3_7 g60 ?_
                  refine wp_bipush (n := 65) (v := 42) dX3_snap_63 rfl (by decide) ?_
                  refine wp_iload (n := 67) (i := 4) (q := 0) dX3_snap_65 rfl rfl ?_
                  refine wp_iadd (n := 68) dX3_snap_67 rfl ?_
                  refine wp_aload_n (n := 69) (i := 0) (q := 2) dX3_snap_68 rfl rfl rfl ?_
                  obtain ⟨x69, g69, h⟩ := h
                  refine wp_gf (n := 72) dX3_snap_69 rfl fl_X3_7 g69 ?_
                  refine wp_bipush (n := 74) (v := 42) dX3_snap_72 rfl (by decide) ?_
                  refine wp_iload_n (n := 75) (i := 1) (q := 3) dX3_snap_74 rfl rfl rfl ?_
                  refine wp_iadd (n := 76) dX3_snap_75 rfl ?_
                  obtain ⟨x76, g76, h⟩ := h
                  refine wp_gI (n := 77) dX3_snap_76 rfl g76 ?_
                  refine wp_pI (n := 78) dX3_snap_77 rfl (pI_mono h (fun w77 h => ?_))
                  refine wp_aload_n (n := 79) (i := 0) (q := 2) dX3_snap_78 rfl rfl rfl ?_
                  obtain ⟨x79, g79, h⟩ := h
                  refine wp_gf (n := 82) dX3_snap_79 rfl fl_X3_7 g79 ?_
                  refine wp_bipush (n := 84) (v := 42) dX3_snap_82 rfl (by decide) ?_
                  refine wp_iload_n (n := 85) (i := 1) (q := 3) dX3_snap_84 rfl rfl rfl ?_
                  refine wp_iadd (n := 86) dX3_snap_85 rfl ?_
                  refine wp_iload (n := 88) (i := 4) (q := 0) dX3_snap_86 rfl rfl ?_
                  refine wp_pI (n := 89) dX3_snap_88 rfl (pI_mono h (fun w88 h => ?_))
                  refine wp_aload_n (n := 90) (i := 0) (q := 2) dX3_snap_89 rfl rfl rfl ?_
                  obtain ⟨x90, g90, h⟩ := h
                  refine wp_gf (n := 93) dX3_snap_90 rfl fl_X3_7 g90 ?_
                  refine wp_bipush (n := 95) (v := 62) dX3_snap_93 rfl (by decide) ?_
                  refine wp_iload (n := 97) (i := 4) (q := 0) dX3_snap_95 rfl rfl ?_
                  refine wp_iadd (n := 98) dX3_snap_97 rfl ?_
                  refine wp_iload_n (n := 99) (i := 1) (q := 3) dX3_snap_98 rfl rfl rfl ?_
                  refine wp_pI (n := 100) dX3_snap_99 rfl (pI_mono h (fun w99 h => ?_))
                  refine wp_aload_n (n := 101) (i := 0) (q := 2) dX3_snap_100 rfl rfl rfl ?_
                  obtain ⟨x101, g101, h⟩ := h
                  refine wp_gf (n := 104) dX3_snap_101 rfl fl_X3_7 g101 ?_
                  refine wp_bipush (n := 106) (v := 102) dX3_snap_104 rfl (by decide) ?_
                  refine wp_iload (n := 108) (i := 4) (q := 0) dX3_snap_106 rfl rfl ?_
                  refine wp_iadd (n := 109) dX3_snap_108 rfl ?_
                  refine wp_iload_n (n := 110) (i := 2) (q := 4) dX3_snap_109 rfl rfl rfl ?_
                  refine wp_pI (n := 111) dX3_snap_110 rfl (pI_mono h (fun w110 h => ?_))
                  refine wp_aload_n (n := 112) (i := 0) (q := 2) dX3_snap_111 rfl rfl rfl ?_
                  obtain ⟨x112, g112, h⟩ := h
                  refine wp_gf (n := 115) dX3_snap_112 rfl fl_X3_7 g112 ?_
                  refine wp_iconst (n := 116) (v := 0) dX3_snap_115 rfl (by decide) ?_
                  refine wp_dup2_11 (n := 117) dX3_snap_116 rfl rfl rfl ?_
                  obtain ⟨x117, g117, h⟩ := h
                  refine wp_gI (n := 118) dX3_snap_117 rfl g117 ?_
                  refine wp_iconst (n := 119) (v := 1) dX3_snap_118 rfl (by decide) ?_
                  refine wp_iadd (n := 120) dX3_snap_119 rfl ?_
                  refine wp_pI (n := 121) dX3_snap_120 rfl (pI_mono h (fun w120 h => ?_))
                  refine wp_iload (n := 123) (i := 4) (q := 0) dX3_snap_121 rfl rfl ?_
                  exact wp_ireturn dX3_snap_123 rfl h
                · exact h.elim
              · exact h.elim
            · replace h := h.2 c31
              refine wp_bipush (n := 36) (v := (-4)) dX3_snap_34 rfl (by decide) ?_
              exact wp_ireturn dX3_snap_36 rfl h
          · exact h.elim
        · replace h := h.2 c20
          refine wp_iload_n (n := 24) (i := 3) (q := 0) dX3_snap_23 rfl rfl rfl ?_
          exact wp_ireturn dX3_snap_24 rfl h
      · exact h.elim
    · replace h := h.2 c6
      refine wp_bipush (n := 11) (v := (-2)) dX3_snap_9 rfl (by decide) ?_
      exact wp_ireturn dX3_snap_11 rfl h
  · exact h.elim
set_option maxHeartbeats 1000000 in
theorem sg_X3_nexts_0 {h0 : Nat} {i1 : Int32} {rc rs : Nat} {QR : Option aV → aW → Prop} {QX : String → aW → Prop} {w : aW} (h : wp (KX3_nexts) rc rs QR QX 4 [(0, vR (some h0)), (1, vI i1), (2, vI 0), (3, vI 0)] [] w) : wp (KX3_nexts) rc rs QR QX 0 [(0, vR (some h0)), (1, vI i1)] [] w := by
  refine wp_iconst (n := 1) (v := 0) dX3_nexts_0 rfl (by decide) ?_
  refine wp_istore_n (n := 2) (i := 2) (ls' := [(2, vI 0), (0, vR (some h0)), (1, vI i1)]) dX3_nexts_1 rfl rfl (Nat.le_of_ble_eq_true rfl) rfl ?_
  refine wp_iconst (n := 3) (v := 0) dX3_nexts_2 rfl (by decide) ?_
  refine wp_istore_n (n := 4) (i := 3) (ls' := [(3, vI 0), (2, vI 0), (0, vR (some h0)), (1, vI i1)]) dX3_nexts_3 rfl rfl (Nat.le_of_ble_eq_true rfl) rfl ?_
  exact wp_sub [2, 3, 1, 0] rfl h
set_option maxHeartbeats 1000000 in
theorem sg_X3_nexts_4 {h0 : Nat} {i1 : Int32} {i2 : Int32} {i3 : Int32} {rc rs : Nat} {QR : Option aV → aW → Prop} {QX : String → aW → Prop} {w : aW} (h : (20 ≤ i3 → QR (some (vI i2)) w) ∧ (¬ 20 ≤ i3 → isO w h0 3 ∧ ct (KX3_hasSlots) 0 0 [vR (some h0), vI i3] w (fun v13 w13 => ∃ x13 : Int32, v13 = some (vI x13) ∧ (x13 = 0 → wp (KX3_nexts) rc rs QR QX 4 [(0, vR (some h0)), (1, vI i1), (2, vI (i2 + 0)), (3, vI (i3 + 1))] [] w13) ∧ (¬ x13 = 0 → ∃ x20 : Nat, gf w13 h0 [3] 1 (vR (some x20)) ∧ ∃ x27 : Int32, gI w13 x20 (42 + i3) x27 ∧ (¬ x27 = i1 → wp (KX3_nexts) rc rs QR QX 4 [(0, vR (some h0)), (1, vI i1), (2, vI (i2 + 0)), (3, vI (i3 + 1))] [] w13) ∧ (x27 = i1 → wp (KX3_nexts) rc rs QR QX 4 [(0, vR (some h0)), (1, vI i1), (2, vI (i2 + 1)), (3, vI (i3 + 1))] [] w13))) (fun E13 w13 => False))) : wp (KX3_nexts) rc rs QR QX 4 [(0, vR (some h0)), (1, vI i1), (2, vI i2), (3, vI i3)] [] w := by
  refine wp_iload_n (n := 5) (i := 3) (q := 3) dX3_nexts_4 rfl rfl rfl ?_
  refine wp_bipush (n := 7) (v := 20) dX3_nexts_5 rfl (by decide) ?_
  refine wp_icmp_ge (n := 10) (t := 45) dX3_nexts_7 rfl (by decide) (fun c7 => ?_) (fun c7 => ?_)
  · replace h := h.1 c7
    refine wp_iload_n (n := 46) (i := 2) (q := 2) dX3_nexts_45 rfl rfl rfl ?_
    exact wp_ireturn dX3_nexts_46 rfl h
  · replace h := h.2 c7
    refine wp_iload_n (n := 11) (i := 2) (q := 2) dX3_nexts_10 rfl rfl rfl ?_
    refine wp_aload_n (n := 12) (i := 0) (q := 0) dX3_nexts_11 rfl rfl rfl ?_
    refine wp_iload_n (n := 13) (i := 3) (q := 3) dX3_nexts_12 rfl rfl rfl ?_
    obtain ⟨⟨fs13, o13⟩, h⟩ := h
    refine wp_call (n := 16) (K' := KX3_hasSlots) (rc' := rc) (rs' := rs) (aRun_V (K' := KX3_hasSlots) (As := [vI i3]) (rest := [vI i2]) (b := h0) (c0 := .inr (3, fs13)) dX3_nexts_13 (aCal_of kf_X3_hasSlots (Nat.le_of_ble_eq_true rfl)) q1131 q1133 qs62 ar_X3_hasSlots o13 (by decide : 3 < 9) rfl (Nat.le_of_ble_eq_true rfl)) rfl (Nat.le_of_eq (Nat.zero_add _)) (Nat.le_of_eq (Nat.zero_add _)) (fun v13 w13 h => ?_) (fun E13 w13 h => ?_) h
    · obtain ⟨x13, rfl, h⟩ := h
      refine wp_if_eq (n := 19) (t := 36) dX3_nexts_16 rfl (by decide) (fun c16 => ?_) (fun c16 => ?_)
      · replace h := h.1 c16
        refine wp_iconst (n := 37) (v := 0) dX3_nexts_36 rfl (by decide) ?_
        refine wp_iadd (n := 38) dX3_nexts_37 rfl ?_
        refine wp_istore_n (n := 39) (i := 2) (ls' := [(2, vI (i2 + 0)), (0, vR (some h0)), (1, vI i1), (3, vI i3)]) dX3_nexts_38 rfl rfl (Nat.le_of_ble_eq_true rfl) rfl ?_
        refine wp_iinc (n := 42) (i := 3) (q := 3) (v := i3 + 1) (ls' := [(3, vI (i3 + 1)), (2, vI (i2 + 0)), (0, vR (some h0)), (1, vI i1)]) dX3_nexts_39 rfl rfl rfl (Nat.le_of_ble_eq_true rfl) rfl ?_
        refine wp_goto (t := 4) dX3_nexts_42 (by decide) ?_
        exact wp_sub [2, 3, 1, 0] rfl h
      · replace h := h.2 c16
        refine wp_aload_n (n := 20) (i := 0) (q := 0) dX3_nexts_19 rfl rfl rfl ?_
        obtain ⟨x20, g20, h⟩ := h
        refine wp_gf (n := 23) dX3_nexts_20 rfl fl_X3_7 g20 ?_
        refine wp_bipush (n := 25) (v := 42) dX3_nexts_23 rfl (by decide) ?_
        refine wp_iload_n (n := 26) (i := 3) (q := 3) dX3_nexts_25 rfl rfl rfl ?_
        refine wp_iadd (n := 27) dX3_nexts_26 rfl ?_
        obtain ⟨x27, g27, h⟩ := h
        refine wp_gI (n := 28) dX3_nexts_27 rfl g27 ?_
        refine wp_iload_n (n := 29) (i := 1) (q := 1) dX3_nexts_28 rfl rfl rfl ?_
        refine wp_icmp_ne (n := 32) (t := 36) dX3_nexts_29 rfl (by decide) (fun c29 => ?_) (fun c29 => ?_)
        · replace h := h.1 c29
          refine wp_iconst (n := 37) (v := 0) dX3_nexts_36 rfl (by decide) ?_
          refine wp_iadd (n := 38) dX3_nexts_37 rfl ?_
          refine wp_istore_n (n := 39) (i := 2) (ls' := [(2, vI (i2 + 0)), (0, vR (some h0)), (1, vI i1), (3, vI i3)]) dX3_nexts_38 rfl rfl (Nat.le_of_ble_eq_true rfl) rfl ?_
          refine wp_iinc (n := 42) (i := 3) (q := 3) (v := i3 + 1) (ls' := [(3, vI (i3 + 1)), (2, vI (i2 + 0)), (0, vR (some h0)), (1, vI i1)]) dX3_nexts_39 rfl rfl rfl (Nat.le_of_ble_eq_true rfl) rfl ?_
          refine wp_goto (t := 4) dX3_nexts_42 (by decide) ?_
          exact wp_sub [2, 3, 1, 0] rfl h
        · replace h := h.2 c29
          refine wp_iconst (n := 33) (v := 1) dX3_nexts_32 rfl (by decide) ?_
          refine wp_goto (t := 37) dX3_nexts_33 (by decide) ?_
          refine wp_iadd (n := 38) dX3_nexts_37 rfl ?_
          refine wp_istore_n (n := 39) (i := 2) (ls' := [(2, vI (i2 + 1)), (0, vR (some h0)), (1, vI i1), (3, vI i3)]) dX3_nexts_38 rfl rfl (Nat.le_of_ble_eq_true rfl) rfl ?_
          refine wp_iinc (n := 42) (i := 3) (q := 3) (v := i3 + 1) (ls' := [(3, vI (i3 + 1)), (2, vI (i2 + 1)), (0, vR (some h0)), (1, vI i1)]) dX3_nexts_39 rfl rfl rfl (Nat.le_of_ble_eq_true rfl) rfl ?_
          refine wp_goto (t := 4) dX3_nexts_42 (by decide) ?_
          exact wp_sub [2, 3, 1, 0] rfl h
    · exact h.elim
set_option maxHeartbeats 1000000 in
theorem sg_X3_owned_0 {h0 : Nat} {i1 : Int32} {rc rs : Nat} {QR : Option aV → aW → Prop} {QX : String → aW → Prop} {w : aW} (h : wp (KX3_owned) rc rs QR QX 4 [(0, vR (some h0)), (1, vI i1), (2, vI 0), (3, vI 0)] [] w) : wp (KX3_owned) rc rs QR QX 0 [(0, vR (some h0)), (1, vI i1)] [] w := by
  refine wp_iconst (n := 1) (v := 0) dX3_owned_0 rfl (by decide) ?_
  refine wp_istore_n (n := 2) (i := 2) (ls' := [(2, vI 0), (0, vR (some h0)), (1, vI i1)]) dX3_owned_1 rfl rfl (Nat.le_of_ble_eq_true rfl) rfl ?_
  refine wp_iconst (n := 3) (v := 0) dX3_owned_2 rfl (by decide) ?_
  refine wp_istore_n (n := 4) (i := 3) (ls' := [(3, vI 0), (2, vI 0), (0, vR (some h0)), (1, vI i1)]) dX3_owned_3 rfl rfl (Nat.le_of_ble_eq_true rfl) rfl ?_
  exact wp_sub [2, 3, 1, 0] rfl h
set_option maxHeartbeats 1000000 in
theorem sg_X3_owned_4 {h0 : Nat} {i1 : Int32} {i2 : Int32} {i3 : Int32} {rc rs : Nat} {QR : Option aV → aW → Prop} {QX : String → aW → Prop} {w : aW} (h : (20 ≤ i3 → QR (some (vI i2)) w) ∧ (¬ 20 ≤ i3 → isO w h0 3 ∧ ct (KX3_isSnapshot) 0 0 [vR (some h0), vI i3] w (fun v13 w13 => ∃ x13 : Int32, v13 = some (vI x13) ∧ (x13 = 0 → wp (KX3_owned) rc rs QR QX 4 [(0, vR (some h0)), (1, vI i1), (2, vI (i2 + 0)), (3, vI (i3 + 1))] [] w13) ∧ (¬ x13 = 0 → ∃ x20 : Nat, gf w13 h0 [3] 1 (vR (some x20)) ∧ ∃ x27 : Int32, gI w13 x20 (62 + i3) x27 ∧ (¬ x27 = i1 → wp (KX3_owned) rc rs QR QX 4 [(0, vR (some h0)), (1, vI i1), (2, vI (i2 + 0)), (3, vI (i3 + 1))] [] w13) ∧ (x27 = i1 → wp (KX3_owned) rc rs QR QX 4 [(0, vR (some h0)), (1, vI i1), (2, vI (i2 + 1)), (3, vI (i3 + 1))] [] w13))) (fun E13 w13 => False))) : wp (KX3_owned) rc rs QR QX 4 [(0, vR (some h0)), (1, vI i1), (2, vI i2), (3, vI i3)] [] w := by
  refine wp_iload_n (n := 5) (i := 3) (q := 3) dX3_owned_4 rfl rfl rfl ?_
  refine wp_bipush (n := 7) (v := 20) dX3_owned_5 rfl (by decide) ?_
  refine wp_icmp_ge (n := 10) (t := 45) dX3_owned_7 rfl (by decide) (fun c7 => ?_) (fun c7 => ?_)
  · replace h := h.1 c7
    refine wp_iload_n (n := 46) (i := 2) (q := 2) dX3_owned_45 rfl rfl rfl ?_
    exact wp_ireturn dX3_owned_46 rfl h
  · replace h := h.2 c7
    refine wp_iload_n (n := 11) (i := 2) (q := 2) dX3_owned_10 rfl rfl rfl ?_
    refine wp_aload_n (n := 12) (i := 0) (q := 0) dX3_owned_11 rfl rfl rfl ?_
    refine wp_iload_n (n := 13) (i := 3) (q := 3) dX3_owned_12 rfl rfl rfl ?_
    obtain ⟨⟨fs13, o13⟩, h⟩ := h
    refine wp_call (n := 16) (K' := KX3_isSnapshot) (rc' := rc) (rs' := rs) (aRun_V (K' := KX3_isSnapshot) (As := [vI i3]) (rest := [vI i2]) (b := h0) (c0 := .inr (3, fs13)) dX3_owned_13 (aCal_of kf_X3_isSnapshot (Nat.le_of_ble_eq_true rfl)) q1139 q1141 qs64 ar_X3_isSnapshot o13 (by decide : 3 < 9) rfl (Nat.le_of_ble_eq_true rfl)) rfl (Nat.le_of_eq (Nat.zero_add _)) (Nat.le_of_eq (Nat.zero_add _)) (fun v13 w13 h => ?_) (fun E13 w13 h => ?_) h
    · obtain ⟨x13, rfl, h⟩ := h
      refine wp_if_eq (n := 19) (t := 36) dX3_owned_16 rfl (by decide) (fun c16 => ?_) (fun c16 => ?_)
      · replace h := h.1 c16
        refine wp_iconst (n := 37) (v := 0) dX3_owned_36 rfl (by decide) ?_
        refine wp_iadd (n := 38) dX3_owned_37 rfl ?_
        refine wp_istore_n (n := 39) (i := 2) (ls' := [(2, vI (i2 + 0)), (0, vR (some h0)), (1, vI i1), (3, vI i3)]) dX3_owned_38 rfl rfl (Nat.le_of_ble_eq_true rfl) rfl ?_
        refine wp_iinc (n := 42) (i := 3) (q := 3) (v := i3 + 1) (ls' := [(3, vI (i3 + 1)), (2, vI (i2 + 0)), (0, vR (some h0)), (1, vI i1)]) dX3_owned_39 rfl rfl rfl (Nat.le_of_ble_eq_true rfl) rfl ?_
        refine wp_goto (t := 4) dX3_owned_42 (by decide) ?_
        exact wp_sub [2, 3, 1, 0] rfl h
      · replace h := h.2 c16
        refine wp_aload_n (n := 20) (i := 0) (q := 0) dX3_owned_19 rfl rfl rfl ?_
        obtain ⟨x20, g20, h⟩ := h
        refine wp_gf (n := 23) dX3_owned_20 rfl fl_X3_7 g20 ?_
        refine wp_bipush (n := 25) (v := 62) dX3_owned_23 rfl (by decide) ?_
        refine wp_iload_n (n := 26) (i := 3) (q := 3) dX3_owned_25 rfl rfl rfl ?_
        refine wp_iadd (n := 27) dX3_owned_26 rfl ?_
        obtain ⟨x27, g27, h⟩ := h
        refine wp_gI (n := 28) dX3_owned_27 rfl g27 ?_
        refine wp_iload_n (n := 29) (i := 1) (q := 1) dX3_owned_28 rfl rfl rfl ?_
        refine wp_icmp_ne (n := 32) (t := 36) dX3_owned_29 rfl (by decide) (fun c29 => ?_) (fun c29 => ?_)
        · replace h := h.1 c29
          refine wp_iconst (n := 37) (v := 0) dX3_owned_36 rfl (by decide) ?_
          refine wp_iadd (n := 38) dX3_owned_37 rfl ?_
          refine wp_istore_n (n := 39) (i := 2) (ls' := [(2, vI (i2 + 0)), (0, vR (some h0)), (1, vI i1), (3, vI i3)]) dX3_owned_38 rfl rfl (Nat.le_of_ble_eq_true rfl) rfl ?_
          refine wp_iinc (n := 42) (i := 3) (q := 3) (v := i3 + 1) (ls' := [(3, vI (i3 + 1)), (2, vI (i2 + 0)), (0, vR (some h0)), (1, vI i1)]) dX3_owned_39 rfl rfl rfl (Nat.le_of_ble_eq_true rfl) rfl ?_
          refine wp_goto (t := 4) dX3_owned_42 (by decide) ?_
          exact wp_sub [2, 3, 1, 0] rfl h
        · replace h := h.2 c29
          refine wp_iconst (n := 33) (v := 1) dX3_owned_32 rfl (by decide) ?_
          refine wp_goto (t := 37) dX3_owned_33 (by decide) ?_
          refine wp_iadd (n := 38) dX3_owned_37 rfl ?_
          refine wp_istore_n (n := 39) (i := 2) (ls' := [(2, vI (i2 + 1)), (0, vR (some h0)), (1, vI i1), (3, vI i3)]) dX3_owned_38 rfl rfl (Nat.le_of_ble_eq_true rfl) rfl ?_
          refine wp_iinc (n := 42) (i := 3) (q := 3) (v := i3 + 1) (ls' := [(3, vI (i3 + 1)), (2, vI (i2 + 1)), (0, vR (some h0)), (1, vI i1)]) dX3_owned_39 rfl rfl rfl (Nat.le_of_ble_eq_true rfl) rfl ?_
          refine wp_goto (t := 4) dX3_owned_42 (by decide) ?_
          exact wp_sub [2, 3, 1, 0] rfl h
    · exact h.elim
set_option maxHeartbeats 1000000 in
theorem sg_X3_removed_0 {h0 : Nat} {i1 : Int32} {rc rs : Nat} {QR : Option aV → aW → Prop} {QX : String → aW → Prop} {w : aW} (h : wp (KX3_removed) rc rs QR QX 2 [(0, vR (some h0)), (1, vI i1), (2, vI 0)] [] w) : wp (KX3_removed) rc rs QR QX 0 [(0, vR (some h0)), (1, vI i1)] [] w := by
  refine wp_iconst (n := 1) (v := 0) dX3_removed_0 rfl (by decide) ?_
  refine wp_istore_n (n := 2) (i := 2) (ls' := [(2, vI 0), (0, vR (some h0)), (1, vI i1)]) dX3_removed_1 rfl rfl (Nat.le_of_ble_eq_true rfl) rfl ?_
  exact wp_sub [1, 2, 0] rfl h
set_option maxHeartbeats 1000000 in
theorem sg_X3_removed_2 {h0 : Nat} {i1 : Int32} {i2 : Int32} {rc rs : Nat} {QR : Option aV → aW → Prop} {QX : String → aW → Prop} {w : aW} (h : (20 ≤ i2 → ∃ x54 : Nat, gf w h0 [3] 1 (vR (some x54)) ∧ pI w x54 (2 + i1) (-1) (fun w61 => isO w61 h0 3 ∧ ct (KX3_frees) 0 0 [vR (some h0)] w61 (fun v63 w63 => ∃ x63 : Int32, v63 = some (vI x63) ∧ QR (some (vI x63)) w63) (fun E63 w63 => False))) ∧ (¬ 20 ≤ i2 → isO w h0 3 ∧ ct (KX3_hasSlots) 0 0 [vR (some h0), vI i2] w (fun v10 w10 => ∃ x10 : Int32, v10 = some (vI x10) ∧ (x10 = 0 → wp (KX3_removed) rc rs QR QX 2 [(0, vR (some h0)), (1, vI i1), (2, vI (i2 + 1))] [] w10) ∧ (¬ x10 = 0 → ∃ x17 : Nat, gf w10 h0 [3] 1 (vR (some x17)) ∧ ∃ x24 : Int32, gI w10 x17 (42 + i2) x24 ∧ (¬ x24 = i1 → wp (KX3_removed) rc rs QR QX 2 [(0, vR (some h0)), (1, vI i1), (2, vI (i2 + 1))] [] w10) ∧ (x24 = i1 → ∃ x30 : Nat, gf w10 h0 [3] 1 (vR (some x30)) ∧ ∃ x38 : Nat, gf w10 h0 [3] 1 (vR (some x38)) ∧ ∃ x45 : Int32, gI w10 x38 (42 + i1) x45 ∧ pI w10 x30 (42 + i2) x45 (fun w46 => wp (KX3_removed) rc rs QR QX 2 [(0, vR (some h0)), (1, vI i1), (2, vI (i2 + 1))] [] w46)))) (fun E10 w10 => False))) : wp (KX3_removed) rc rs QR QX 2 [(0, vR (some h0)), (1, vI i1), (2, vI i2)] [] w := by
  refine wp_iload_n (n := 3) (i := 2) (q := 2) dX3_removed_2 rfl rfl rfl ?_
  refine wp_bipush (n := 5) (v := 20) dX3_removed_3 rfl (by decide) ?_
  refine wp_icmp_ge (n := 8) (t := 53) dX3_removed_5 rfl (by decide) (fun c5 => ?_) (fun c5 => ?_)
  · replace h := h.1 c5
    refine wp_aload_n (n := 54) (i := 0) (q := 0) dX3_removed_53 rfl rfl rfl ?_
    obtain ⟨x54, g54, h⟩ := h
    refine wp_gf (n := 57) dX3_removed_54 rfl fl_X3_7 g54 ?_
    refine wp_iconst (n := 58) (v := 2) dX3_removed_57 rfl (by decide) ?_
    refine wp_iload_n (n := 59) (i := 1) (q := 1) dX3_removed_58 rfl rfl rfl ?_
    refine wp_iadd (n := 60) dX3_removed_59 rfl ?_
    refine wp_iconst (n := 61) (v := (-1)) dX3_removed_60 rfl (by decide) ?_
    refine wp_pI (n := 62) dX3_removed_61 rfl (pI_mono h (fun w61 h => ?_))
    refine wp_aload_n (n := 63) (i := 0) (q := 0) dX3_removed_62 rfl rfl rfl ?_
    obtain ⟨⟨fs63, o63⟩, h⟩ := h
    refine wp_call (n := 66) (K' := KX3_frees) (rc' := rc) (rs' := rs) (aRun_V (K' := KX3_frees) (As := []) (rest := []) (b := h0) (c0 := .inr (3, fs63)) dX3_removed_63 (aCal_of kf_X3_frees (Nat.le_of_ble_eq_true rfl)) q1123 q1125 qs60 ar_X3_frees o63 (by decide : 3 < 9) rfl (Nat.le_of_ble_eq_true rfl)) rfl (Nat.le_of_eq (Nat.zero_add _)) (Nat.le_of_eq (Nat.zero_add _)) (fun v63 w63 h => ?_) (fun E63 w63 h => ?_) h
    · obtain ⟨x63, rfl, h⟩ := h
      exact wp_ireturn dX3_removed_66 rfl h
    · exact h.elim
  · replace h := h.2 c5
    refine wp_aload_n (n := 9) (i := 0) (q := 0) dX3_removed_8 rfl rfl rfl ?_
    refine wp_iload_n (n := 10) (i := 2) (q := 2) dX3_removed_9 rfl rfl rfl ?_
    obtain ⟨⟨fs10, o10⟩, h⟩ := h
    refine wp_call (n := 13) (K' := KX3_hasSlots) (rc' := rc) (rs' := rs) (aRun_V (K' := KX3_hasSlots) (As := [vI i2]) (rest := []) (b := h0) (c0 := .inr (3, fs10)) dX3_removed_10 (aCal_of kf_X3_hasSlots (Nat.le_of_ble_eq_true rfl)) q1131 q1133 qs62 ar_X3_hasSlots o10 (by decide : 3 < 9) rfl (Nat.le_of_ble_eq_true rfl)) rfl (Nat.le_of_eq (Nat.zero_add _)) (Nat.le_of_eq (Nat.zero_add _)) (fun v10 w10 h => ?_) (fun E10 w10 h => ?_) h
    · obtain ⟨x10, rfl, h⟩ := h
      refine wp_if_eq (n := 16) (t := 47) dX3_removed_13 rfl (by decide) (fun c13 => ?_) (fun c13 => ?_)
      · replace h := h.1 c13
        refine wp_iinc (n := 50) (i := 2) (q := 2) (v := i2 + 1) (ls' := [(2, vI (i2 + 1)), (0, vR (some h0)), (1, vI i1)]) dX3_removed_47 rfl rfl rfl (Nat.le_of_ble_eq_true rfl) rfl ?_
        refine wp_goto (t := 2) dX3_removed_50 (by decide) ?_
        exact wp_sub [1, 2, 0] rfl h
      · replace h := h.2 c13
        refine wp_aload_n (n := 17) (i := 0) (q := 0) dX3_removed_16 rfl rfl rfl ?_
        obtain ⟨x17, g17, h⟩ := h
        refine wp_gf (n := 20) dX3_removed_17 rfl fl_X3_7 g17 ?_
        refine wp_bipush (n := 22) (v := 42) dX3_removed_20 rfl (by decide) ?_
        refine wp_iload_n (n := 23) (i := 2) (q := 2) dX3_removed_22 rfl rfl rfl ?_
        refine wp_iadd (n := 24) dX3_removed_23 rfl ?_
        obtain ⟨x24, g24, h⟩ := h
        refine wp_gI (n := 25) dX3_removed_24 rfl g24 ?_
        refine wp_iload_n (n := 26) (i := 1) (q := 1) dX3_removed_25 rfl rfl rfl ?_
        refine wp_icmp_ne (n := 29) (t := 47) dX3_removed_26 rfl (by decide) (fun c26 => ?_) (fun c26 => ?_)
        · replace h := h.1 c26
          refine wp_iinc (n := 50) (i := 2) (q := 2) (v := i2 + 1) (ls' := [(2, vI (i2 + 1)), (0, vR (some h0)), (1, vI i1)]) dX3_removed_47 rfl rfl rfl (Nat.le_of_ble_eq_true rfl) rfl ?_
          refine wp_goto (t := 2) dX3_removed_50 (by decide) ?_
          exact wp_sub [1, 2, 0] rfl h
        · replace h := h.2 c26
          refine wp_aload_n (n := 30) (i := 0) (q := 0) dX3_removed_29 rfl rfl rfl ?_
          obtain ⟨x30, g30, h⟩ := h
          refine wp_gf (n := 33) dX3_removed_30 rfl fl_X3_7 g30 ?_
          refine wp_bipush (n := 35) (v := 42) dX3_removed_33 rfl (by decide) ?_
          refine wp_iload_n (n := 36) (i := 2) (q := 2) dX3_removed_35 rfl rfl rfl ?_
          refine wp_iadd (n := 37) dX3_removed_36 rfl ?_
          refine wp_aload_n (n := 38) (i := 0) (q := 0) dX3_removed_37 rfl rfl rfl ?_
          obtain ⟨x38, g38, h⟩ := h
          refine wp_gf (n := 41) dX3_removed_38 rfl fl_X3_7 g38 ?_
          refine wp_bipush (n := 43) (v := 42) dX3_removed_41 rfl (by decide) ?_
          refine wp_iload_n (n := 44) (i := 1) (q := 1) dX3_removed_43 rfl rfl rfl ?_
          refine wp_iadd (n := 45) dX3_removed_44 rfl ?_
          obtain ⟨x45, g45, h⟩ := h
          refine wp_gI (n := 46) dX3_removed_45 rfl g45 ?_
          refine wp_pI (n := 47) dX3_removed_46 rfl (pI_mono h (fun w46 h => ?_))
          refine wp_iinc (n := 50) (i := 2) (q := 2) (v := i2 + 1) (ls' := [(2, vI (i2 + 1)), (0, vR (some h0)), (1, vI i1)]) dX3_removed_47 rfl rfl rfl (Nat.le_of_ble_eq_true rfl) rfl ?_
          refine wp_goto (t := 2) dX3_removed_50 (by decide) ?_
          exact wp_sub [1, 2, 0] rfl h
    · exact h.elim
set_option maxHeartbeats 1000000 in
theorem sg_X3_remove_0 {h0 : Nat} {i1 : Int32} {rc rs : Nat} {QR : Option aV → aW → Prop} {QX : String → aW → Prop} {w : aW} (h : isO w h0 3 ∧ ct (KX3_there) 0 0 [vR (some h0), vI i1] w (fun v2 w2 => ∃ x2 : Int32, v2 = some (vI x2) ∧ (x2 = 0 → isO w2 h0 3 ∧ ct (KX3_isSnapshot) 0 0 [vR (some h0), vI i1] w2 (fun v14 w14 => ∃ x14 : Int32, v14 = some (vI x14) ∧ (x14 = 0 → isO w14 h0 3 ∧ ct (KX3_isFiles) 0 0 [vR (some h0), vI i1] w14 (fun v43 w43 => ∃ x43 : Int32, v43 = some (vI x43) ∧ (x43 = 0 → isO w43 h0 3 ∧ ct (KX3_removed) 0 0 [vR (some h0), vI i1] w43 (fun v62 w62 => ∃ x62 : Int32, v62 = some (vI x62) ∧ QR (some (vI x62)) w62) (fun E62 w62 => False)) ∧ (¬ x43 = 0 → isO w43 h0 3 ∧ ct (KX3_owned) 0 0 [vR (some h0), vI i1] w43 (fun v51 w51 => ∃ x51 : Int32, v51 = some (vI x51) ∧ (x51 ≤ 0 → isO w51 h0 3 ∧ ct (KX3_removed) 0 0 [vR (some h0), vI i1] w51 (fun v62 w62 => ∃ x62 : Int32, v62 = some (vI x62) ∧ QR (some (vI x62)) w62) (fun E62 w62 => False)) ∧ (¬ x51 ≤ 0 → QR (some (vI (-3))) w51)) (fun E51 w51 => False))) (fun E43 w43 => False)) ∧ (¬ x14 = 0 → ∃ x21 : Nat, gf w14 h0 [3] 1 (vR (some x21)) ∧ ∃ x28 : Int32, gI w14 x21 (102 + i1) x28 ∧ (¬ x28 = 0 → QR (some (vI (-3))) w14) ∧ (x28 = 0 → isO w14 h0 3 ∧ ct (KX3_nexts) 0 0 [vR (some h0), vI i1] w14 (fun v34 w34 => ∃ x34 : Int32, v34 = some (vI x34) ∧ (1 < x34 → QR (some (vI (-3))) w34) ∧ (¬ 1 < x34 → isO w34 h0 3 ∧ ct (KX3_isFiles) 0 0 [vR (some h0), vI i1] w34 (fun v43 w43 => ∃ x43 : Int32, v43 = some (vI x43) ∧ (x43 = 0 → isO w43 h0 3 ∧ ct (KX3_removed) 0 0 [vR (some h0), vI i1] w43 (fun v62 w62 => ∃ x62 : Int32, v62 = some (vI x62) ∧ QR (some (vI x62)) w62) (fun E62 w62 => False)) ∧ (¬ x43 = 0 → isO w43 h0 3 ∧ ct (KX3_owned) 0 0 [vR (some h0), vI i1] w43 (fun v51 w51 => ∃ x51 : Int32, v51 = some (vI x51) ∧ (x51 ≤ 0 → isO w51 h0 3 ∧ ct (KX3_removed) 0 0 [vR (some h0), vI i1] w51 (fun v62 w62 => ∃ x62 : Int32, v62 = some (vI x62) ∧ QR (some (vI x62)) w62) (fun E62 w62 => False)) ∧ (¬ x51 ≤ 0 → QR (some (vI (-3))) w51)) (fun E51 w51 => False))) (fun E43 w43 => False))) (fun E34 w34 => False)))) (fun E14 w14 => False)) ∧ (¬ x2 = 0 → QR (some (vI x2)) w2)) (fun E2 w2 => False)) : wp (KX3_remove) rc rs QR QX 0 [(0, vR (some h0)), (1, vI i1)] [] w := by
  refine wp_aload_n (n := 1) (i := 0) (q := 0) dX3_remove_0 rfl rfl rfl ?_
  refine wp_iload_n (n := 2) (i := 1) (q := 1) dX3_remove_1 rfl rfl rfl ?_
  obtain ⟨⟨fs2, o2⟩, h⟩ := h
  refine wp_call (n := 5) (K' := KX3_there) (rc' := rc) (rs' := rs) (aRun_V (K' := KX3_there) (As := [vI i1]) (rest := []) (b := h0) (c0 := .inr (3, fs2)) dX3_remove_2 (aCal_of kf_X3_there (Nat.le_of_ble_eq_true rfl)) q1096 q1098 qs54 ar_X3_there o2 (by decide : 3 < 9) rfl (Nat.le_of_ble_eq_true rfl)) rfl (Nat.le_of_eq (Nat.zero_add _)) (Nat.le_of_eq (Nat.zero_add _)) (fun v2 w2 h => ?_) (fun E2 w2 h => ?_) h
  · obtain ⟨x2, rfl, h⟩ := h
    refine wp_istore_n (n := 6) (i := 2) (ls' := [(2, vI x2), (0, vR (some h0)), (1, vI i1)]) dX3_remove_5 rfl rfl (Nat.le_of_ble_eq_true rfl) rfl ?_
    refine wp_iload_n (n := 7) (i := 2) (q := 0) dX3_remove_6 rfl rfl rfl ?_
    refine wp_if_eq (n := 10) (t := 12) dX3_remove_7 rfl (by decide) (fun c7 => ?_) (fun c7 => ?_)
    · replace h := h.1 c7
      refine wp_aload_n (n := 13) (i := 0) (q := 1) dX3_remove_12 rfl rfl rfl ?_
      refine wp_iload_n (n := 14) (i := 1) (q := 2) dX3_remove_13 rfl rfl rfl ?_
      obtain ⟨⟨fs14, o14⟩, h⟩ := h
      refine wp_call (n := 17) (K' := KX3_isSnapshot) (rc' := rc) (rs' := rs) (aRun_V (K' := KX3_isSnapshot) (As := [vI i1]) (rest := []) (b := h0) (c0 := .inr (3, fs14)) dX3_remove_14 (aCal_of kf_X3_isSnapshot (Nat.le_of_ble_eq_true rfl)) q1139 q1141 qs64 ar_X3_isSnapshot o14 (by decide : 3 < 9) rfl (Nat.le_of_ble_eq_true rfl)) rfl (Nat.le_of_eq (Nat.zero_add _)) (Nat.le_of_eq (Nat.zero_add _)) (fun v14 w14 h => ?_) (fun E14 w14 h => ?_) h
      · obtain ⟨x14, rfl, h⟩ := h
        refine wp_if_eq (n := 20) (t := 41) dX3_remove_17 rfl (by decide) (fun c17 => ?_) (fun c17 => ?_)
        · replace h := h.1 c17
          refine wp_aload_n (n := 42) (i := 0) (q := 1) dX3_remove_41 rfl rfl rfl ?_
          refine wp_iload_n (n := 43) (i := 1) (q := 2) dX3_remove_42 rfl rfl rfl ?_
          obtain ⟨⟨fs43, o43⟩, h⟩ := h
          refine wp_call (n := 46) (K' := KX3_isFiles) (rc' := rc) (rs' := rs) (aRun_V (K' := KX3_isFiles) (As := [vI i1]) (rest := []) (b := h0) (c0 := .inr (3, fs43)) dX3_remove_43 (aCal_of kf_X3_isFiles (Nat.le_of_ble_eq_true rfl)) q1135 q1137 qs63 ar_X3_isFiles o43 (by decide : 3 < 9) rfl (Nat.le_of_ble_eq_true rfl)) rfl (Nat.le_of_eq (Nat.zero_add _)) (Nat.le_of_eq (Nat.zero_add _)) (fun v43 w43 h => ?_) (fun E43 w43 h => ?_) h
          · obtain ⟨x43, rfl, h⟩ := h
            refine wp_if_eq (n := 49) (t := 60) dX3_remove_46 rfl (by decide) (fun c46 => ?_) (fun c46 => ?_)
            · replace h := h.1 c46
              refine wp_aload_n (n := 61) (i := 0) (q := 1) dX3_remove_60 rfl rfl rfl ?_
              refine wp_iload_n (n := 62) (i := 1) (q := 2) dX3_remove_61 rfl rfl rfl ?_
              obtain ⟨⟨fs62, o62⟩, h⟩ := h
              refine wp_call (n := 65) (K' := KX3_removed) (rc' := rc) (rs' := rs) (aRun_V (K' := KX3_removed) (As := [vI i1]) (rest := []) (b := h0) (c0 := .inr (3, fs62)) dX3_remove_62 (aCal_of kf_X3_removed (Nat.le_of_ble_eq_true rfl)) q1179 q1181 qs69 ar_X3_removed o62 (by decide : 3 < 9) rfl (Nat.le_of_ble_eq_true rfl)) rfl (Nat.le_of_eq (Nat.zero_add _)) (Nat.le_of_eq (Nat.zero_add _)) (fun v62 w62 h => ?_) (fun E62 w62 h => ?_) h
              · obtain ⟨x62, rfl, h⟩ := h
                exact wp_ireturn dX3_remove_65 rfl h
              · exact h.elim
            · replace h := h.2 c46
              refine wp_aload_n (n := 50) (i := 0) (q := 1) dX3_remove_49 rfl rfl rfl ?_
              refine wp_iload_n (n := 51) (i := 1) (q := 2) dX3_remove_50 rfl rfl rfl ?_
              obtain ⟨⟨fs51, o51⟩, h⟩ := h
              refine wp_call (n := 54) (K' := KX3_owned) (rc' := rc) (rs' := rs) (aRun_V (K' := KX3_owned) (As := [vI i1]) (rest := []) (b := h0) (c0 := .inr (3, fs51)) dX3_remove_51 (aCal_of kf_X3_owned (Nat.le_of_ble_eq_true rfl)) q1175 q1177 qs68 ar_X3_owned o51 (by decide : 3 < 9) rfl (Nat.le_of_ble_eq_true rfl)) rfl (Nat.le_of_eq (Nat.zero_add _)) (Nat.le_of_eq (Nat.zero_add _)) (fun v51 w51 h => ?_) (fun E51 w51 h => ?_) h
              · obtain ⟨x51, rfl, h⟩ := h
                refine wp_if_le (n := 57) (t := 60) dX3_remove_54 rfl (by decide) (fun c54 => ?_) (fun c54 => ?_)
                · replace h := h.1 c54
                  refine wp_aload_n (n := 61) (i := 0) (q := 1) dX3_remove_60 rfl rfl rfl ?_
                  refine wp_iload_n (n := 62) (i := 1) (q := 2) dX3_remove_61 rfl rfl rfl ?_
                  obtain ⟨⟨fs62, o62⟩, h⟩ := h
                  refine wp_call (n := 65) (K' := KX3_removed) (rc' := rc) (rs' := rs) (aRun_V (K' := KX3_removed) (As := [vI i1]) (rest := []) (b := h0) (c0 := .inr (3, fs62)) dX3_remove_62 (aCal_of kf_X3_removed (Nat.le_of_ble_eq_true rfl)) q1179 q1181 qs69 ar_X3_removed o62 (by decide : 3 < 9) rfl (Nat.le_of_ble_eq_true rfl)) rfl (Nat.le_of_eq (Nat.zero_add _)) (Nat.le_of_eq (Nat.zero_add _)) (fun v62 w62 h => ?_) (fun E62 w62 h => ?_) h
                  · obtain ⟨x62, rfl, h⟩ := h
                    exact wp_ireturn dX3_remove_65 rfl h
                  · exact h.elim
                · replace h := h.2 c54
                  refine wp_bipush (n := 59) (v := (-3)) dX3_remove_57 rfl (by decide) ?_
                  exact wp_ireturn dX3_remove_59 rfl h
              · exact h.elim
          · exact h.elim
        · replace h := h.2 c17
          refine wp_aload_n (n := 21) (i := 0) (q := 1) dX3_remove_20 rfl rfl rfl ?_
          obtain ⟨x21, g21, h⟩ := h
          refine wp_gf (n := 24) dX3_remove_21 rfl fl_X3_7 g21 ?_
          refine wp_bipush (n := 26) (v := 102) dX3_remove_24 rfl (by decide) ?_
          refine wp_iload_n (n := 27) (i := 1) (q := 2) dX3_remove_26 rfl rfl rfl ?_
          refine wp_iadd (n := 28) dX3_remove_27 rfl ?_
          obtain ⟨x28, g28, h⟩ := h
          refine wp_gI (n := 29) dX3_remove_28 rfl g28 ?_
          refine wp_if_ne (n := 32) (t := 57) dX3_remove_29 rfl (by decide) (fun c29 => ?_) (fun c29 => ?_)
          · replace h := h.1 c29
            refine wp_bipush (n := 59) (v := (-3)) dX3_remove_57 rfl (by decide) ?_
            exact wp_ireturn dX3_remove_59 rfl h
          · replace h := h.2 c29
            refine wp_aload_n (n := 33) (i := 0) (q := 1) dX3_remove_32 rfl rfl rfl ?_
            refine wp_iload_n (n := 34) (i := 1) (q := 2) dX3_remove_33 rfl rfl rfl ?_
            obtain ⟨⟨fs34, o34⟩, h⟩ := h
            refine wp_call (n := 37) (K' := KX3_nexts) (rc' := rc) (rs' := rs) (aRun_V (K' := KX3_nexts) (As := [vI i1]) (rest := []) (b := h0) (c0 := .inr (3, fs34)) dX3_remove_34 (aCal_of kf_X3_nexts (Nat.le_of_ble_eq_true rfl)) q1171 q1173 qs67 ar_X3_nexts o34 (by decide : 3 < 9) rfl (Nat.le_of_ble_eq_true rfl)) rfl (Nat.le_of_eq (Nat.zero_add _)) (Nat.le_of_eq (Nat.zero_add _)) (fun v34 w34 h => ?_) (fun E34 w34 h => ?_) h
            · obtain ⟨x34, rfl, h⟩ := h
              refine wp_iconst (n := 38) (v := 1) dX3_remove_37 rfl (by decide) ?_
              refine wp_icmp_gt (n := 41) (t := 57) dX3_remove_38 rfl (by decide) (fun c38 => ?_) (fun c38 => ?_)
              · replace h := h.1 c38
                refine wp_bipush (n := 59) (v := (-3)) dX3_remove_57 rfl (by decide) ?_
                exact wp_ireturn dX3_remove_59 rfl h
              · replace h := h.2 c38
                refine wp_aload_n (n := 42) (i := 0) (q := 1) dX3_remove_41 rfl rfl rfl ?_
                refine wp_iload_n (n := 43) (i := 1) (q := 2) dX3_remove_42 rfl rfl rfl ?_
                obtain ⟨⟨fs43, o43⟩, h⟩ := h
                refine wp_call (n := 46) (K' := KX3_isFiles) (rc' := rc) (rs' := rs) (aRun_V (K' := KX3_isFiles) (As := [vI i1]) (rest := []) (b := h0) (c0 := .inr (3, fs43)) dX3_remove_43 (aCal_of kf_X3_isFiles (Nat.le_of_ble_eq_true rfl)) q1135 q1137 qs63 ar_X3_isFiles o43 (by decide : 3 < 9) rfl (Nat.le_of_ble_eq_true rfl)) rfl (Nat.le_of_eq (Nat.zero_add _)) (Nat.le_of_eq (Nat.zero_add _)) (fun v43 w43 h => ?_) (fun E43 w43 h => ?_) h
                · obtain ⟨x43, rfl, h⟩ := h
                  refine wp_if_eq (n := 49) (t := 60) dX3_remove_46 rfl (by decide) (fun c46 => ?_) (fun c46 => ?_)
                  · replace h := h.1 c46
                    refine wp_aload_n (n := 61) (i := 0) (q := 1) dX3_remove_60 rfl rfl rfl ?_
                    refine wp_iload_n (n := 62) (i := 1) (q := 2) dX3_remove_61 rfl rfl rfl ?_
                    obtain ⟨⟨fs62, o62⟩, h⟩ := h
                    refine wp_call (n := 65) (K' := KX3_removed) (rc' := rc) (rs' := rs) (aRun_V (K' := KX3_removed) (As := [vI i1]) (rest := []) (b := h0) (c0 := .inr (3, fs62)) dX3_remove_62 (aCal_of kf_X3_removed (Nat.le_of_ble_eq_true rfl)) q1179 q1181 qs69 ar_X3_removed o62 (by decide : 3 < 9) rfl (Nat.le_of_ble_eq_true rfl)) rfl (Nat.le_of_eq (Nat.zero_add _)) (Nat.le_of_eq (Nat.zero_add _)) (fun v62 w62 h => ?_) (fun E62 w62 h => ?_) h
                    · obtain ⟨x62, rfl, h⟩ := h
                      exact wp_ireturn dX3_remove_65 rfl h
                    · exact h.elim
                  · replace h := h.2 c46
                    refine wp_aload_n (n := 50) (i := 0) (q := 1) dX3_remove_49 rfl rfl rfl ?_
                    refine wp_iload_n (n := 51) (i := 1) (q := 2) dX3_remove_50 rfl rfl rfl ?_
                    obtain ⟨⟨fs51, o51⟩, h⟩ := h
                    refine wp_call (n := 54) (K' := KX3_owned) (rc' := rc) (rs' := rs) (aRun_V (K' := KX3_owned) (As := [vI i1]) (rest := []) (b := h0) (c0 := .inr (3, fs51)) dX3_remove_51 (aCal_of kf_X3_owned (Nat.le_of_ble_eq_true rfl)) q1175 q1177 qs68 ar_X3_owned o51 (by decide : 3 < 9) rfl (Nat.le_of_ble_eq_true rfl)) rfl (Nat.le_of_eq (Nat.zero_add _)) (Nat.le_of_eq (Nat.zero_add _)) (fun v51 w51 h => ?_) (fun E51 w51 h => ?_) h
                    · obtain ⟨x51, rfl, h⟩ := h
                      refine wp_if_le (n := 57) (t := 60) dX3_remove_54 rfl (by decide) (fun c54 => ?_) (fun c54 => ?_)
                      · replace h := h.1 c54
                        refine wp_aload_n (n := 61) (i := 0) (q := 1) dX3_remove_60 rfl rfl rfl ?_
                        refine wp_iload_n (n := 62) (i := 1) (q := 2) dX3_remove_61 rfl rfl rfl ?_
                        obtain ⟨⟨fs62, o62⟩, h⟩ := h
                        refine wp_call (n := 65) (K' := KX3_removed) (rc' := rc) (rs' := rs) (aRun_V (K' := KX3_removed) (As := [vI i1]) (rest := []) (b := h0) (c0 := .inr (3, fs62)) dX3_remove_62 (aCal_of kf_X3_removed (Nat.le_of_ble_eq_true rfl)) q1179 q1181 qs69 ar_X3_removed o62 (by decide : 3 < 9) rfl (Nat.le_of_ble_eq_true rfl)) rfl (Nat.le_of_eq (Nat.zero_add _)) (Nat.le_of_eq (Nat.zero_add _)) (fun v62 w62 h => ?_) (fun E62 w62 h => ?_) h
                        · obtain ⟨x62, rfl, h⟩ := h
                          exact wp_ireturn dX3_remove_65 rfl h
                        · exact h.elim
                      · replace h := h.2 c54
                        refine wp_bipush (n := 59) (v := (-3)) dX3_remove_57 rfl (by decide) ?_
                        exact wp_ireturn dX3_remove_59 rfl h
                    · exact h.elim
                · exact h.elim
            · exact h.elim
      · exact h.elim
    · replace h := h.2 c7
      refine wp_iload_n (n := 11) (i := 2) (q := 0) dX3_remove_10 rfl rfl rfl ?_
      exact wp_ireturn dX3_remove_11 rfl h
  · exact h.elim
set_option maxHeartbeats 1000000 in
theorem sg_X3_fork_0 {h0 : Nat} {i1 : Int32} {rc rs : Nat} {QR : Option aV → aW → Prop} {QX : String → aW → Prop} {w : aW} (h : isO w h0 3 ∧ ct (KX3_asked) 0 0 [vR (some h0), vI i1, vI 2] w (fun v3 w3 => ∃ x3 : Int32, v3 = some (vI x3) ∧ (x3 = 0 → isO w3 h0 3 ∧ ct (KX3_newThing) 0 0 [vR (some h0)] w3 (fun v14 w14 => ∃ x14 : Int32, v14 = some (vI x14) ∧ (¬ x14 = 20 → ∃ x28 : Nat, gf w14 h0 [3] 1 (vR (some x28)) ∧ ∃ x32 : Int32, gI w14 x28 0 x32 ∧ isO w14 h0 3 ∧ ct (KX3_comes) 0 0 [vR (some h0), vI 0, vI x32] w14 (fun v33 w33 => ∃ x33 : Int32, v33 = some (vI x33) ∧ isO w33 h0 3 ∧ ct (KX3_takesSlots) 0 0 [vR (some h0), vI x33, vI i1] w33 (fun v40 w40 => v40 = none ∧ ∃ x44 : Nat, gf w40 h0 [3] 1 (vR (some x44)) ∧ pI w40 x44 (42 + x33) i1 (fun w52 => QR (some (vI x33)) w52)) (fun E40 w40 => False)) (fun E33 w33 => False)) ∧ (x14 = 20 → QR (some (vI (-4))) w14)) (fun E14 w14 => False)) ∧ (¬ x3 = 0 → QR (some (vI x3)) w3)) (fun E3 w3 => False)) : wp (KX3_fork) rc rs QR QX 0 [(0, vR (some h0)), (1, vI i1)] [] w := by
  refine wp_aload_n (n := 1) (i := 0) (q := 0) dX3_fork_0 rfl rfl rfl ?_
  refine wp_iload_n (n := 2) (i := 1) (q := 1) dX3_fork_1 rfl rfl rfl ?_
  refine wp_iconst (n := 3) (v := 2) dX3_fork_2 rfl (by decide) ?_
  obtain ⟨⟨fs3, o3⟩, h⟩ := h
  refine wp_call (n := 6) (K' := KX3_asked) (rc' := rc) (rs' := rs) (aRun_V (K' := KX3_asked) (As := [vI i1, vI 2]) (rest := []) (b := h0) (c0 := .inr (3, fs3)) dX3_fork_3 (aCal_of kf_X3_asked (Nat.le_of_ble_eq_true rfl)) q1092 q1094 qs53 ar_X3_asked o3 (by decide : 3 < 9) rfl (Nat.le_of_ble_eq_true rfl)) rfl (Nat.le_of_eq (Nat.zero_add _)) (Nat.le_of_eq (Nat.zero_add _)) (fun v3 w3 h => ?_) (fun E3 w3 h => ?_) h
  · obtain ⟨x3, rfl, h⟩ := h
    refine wp_istore_n (n := 7) (i := 2) (ls' := [(2, vI x3), (0, vR (some h0)), (1, vI i1)]) dX3_fork_6 rfl rfl (Nat.le_of_ble_eq_true rfl) rfl ?_
    refine wp_iload_n (n := 8) (i := 2) (q := 0) dX3_fork_7 rfl rfl rfl ?_
    refine wp_if_eq (n := 11) (t := 13) dX3_fork_8 rfl (by decide) (fun c8 => ?_) (fun c8 => ?_)
    · replace h := h.1 c8
      refine wp_aload_n (n := 14) (i := 0) (q := 1) dX3_fork_13 rfl rfl rfl ?_
      obtain ⟨⟨fs14, o14⟩, h⟩ := h
      refine wp_call (n := 17) (K' := KX3_newThing) (rc' := rc) (rs' := rs) (aRun_V (K' := KX3_newThing) (As := []) (rest := []) (b := h0) (c0 := .inr (3, fs14)) dX3_fork_14 (aCal_of kf_X3_newThing (Nat.le_of_ble_eq_true rfl)) q1080 q1082 qs51 ar_X3_newThing o14 (by decide : 3 < 9) rfl (Nat.le_of_ble_eq_true rfl)) rfl (Nat.le_of_eq (Nat.zero_add _)) (Nat.le_of_eq (Nat.zero_add _)) (fun v14 w14 h => ?_) (fun E14 w14 h => ?_) h
      · obtain ⟨x14, rfl, h⟩ := h
        refine wp_bipush (n := 19) (v := 20) dX3_fork_17 rfl (by decide) ?_
        refine wp_icmp_ne (n := 22) (t := 25) dX3_fork_19 rfl (by decide) (fun c19 => ?_) (fun c19 => ?_)
        · replace h := h.1 c19
          refine wp_aload_n (n := 26) (i := 0) (q := 1) dX3_fork_25 rfl rfl rfl ?_
          refine wp_iconst (n := 27) (v := 0) dX3_fork_26 rfl (by decide) ?_
          refine wp_aload_n (n := 28) (i := 0) (q := 1) dX3_fork_27 rfl rfl rfl ?_
          obtain ⟨x28, g28, h⟩ := h
          refine wp_gf (n := 31) dX3_fork_28 rfl fl_X3_7 g28 ?_
          refine wp_iconst (n := 32) (v := 0) dX3_fork_31 rfl (by decide) ?_
          obtain ⟨x32, g32, h⟩ := h
          refine wp_gI (n := 33) dX3_fork_32 rfl g32 ?_
          obtain ⟨⟨fs33, o33⟩, h⟩ := h
          refine wp_call (n := 36) (K' := KX3_comes) (rc' := rc) (rs' := rs) (aRun_V (K' := KX3_comes) (As := [vI 0, vI x32]) (rest := []) (b := h0) (c0 := .inr (3, fs33)) dX3_fork_33 (aCal_of kf_X3_comes (Nat.le_of_ble_eq_true rfl)) q1084 q1086 qs52 ar_X3_comes o33 (by decide : 3 < 9) rfl (Nat.le_of_ble_eq_true rfl)) rfl (Nat.le_of_eq (Nat.zero_add _)) (Nat.le_of_eq (Nat.zero_add _)) (fun v33 w33 h => ?_) (fun E33 w33 h => ?_) h
          · obtain ⟨x33, rfl, h⟩ := h
            refine wp_istore_n (n := 37) (i := 3) (ls' := [(3, vI x33), (2, vI x3), (0, vR (some h0)), (1, vI i1)]) dX3_fork_36 rfl rfl (Nat.le_of_ble_eq_true rfl) rfl ?_
            refine wp_aload_n (n := 38) (i := 0) (q := 2) dX3_fork_37 rfl rfl rfl ?_
            refine wp_iload_n (n := 39) (i := 3) (q := 0) dX3_fork_38 rfl rfl rfl ?_
            refine wp_iload_n (n := 40) (i := 1) (q := 3) dX3_fork_39 rfl rfl rfl ?_
            obtain ⟨⟨fs40, o40⟩, h⟩ := h
            refine wp_call (n := 43) (K' := KX3_takesSlots) (rc' := rc) (rs' := rs) (aRun_V (K' := KX3_takesSlots) (As := [vI x33, vI i1]) (rest := []) (b := h0) (c0 := .inr (3, fs40)) dX3_fork_40 (aCal_of kf_X3_takesSlots (Nat.le_of_ble_eq_true rfl)) q1155 q1157 qs66 ar_X3_takesSlots o40 (by decide : 3 < 9) rfl (Nat.le_of_ble_eq_true rfl)) rfl (Nat.le_of_eq (Nat.zero_add _)) (Nat.le_of_eq (Nat.zero_add _)) (fun v40 w40 h => ?_) (fun E40 w40 h => ?_) h
            · obtain ⟨rfl, h⟩ := h
              refine wp_aload_n (n := 44) (i := 0) (q := 2) dX3_fork_43 rfl rfl rfl ?_
              obtain ⟨x44, g44, h⟩ := h
              refine wp_gf (n := 47) dX3_fork_44 rfl fl_X3_7 g44 ?_
              refine wp_bipush (n := 49) (v := 42) dX3_fork_47 rfl (by decide) ?_
              refine wp_iload_n (n := 50) (i := 3) (q := 0) dX3_fork_49 rfl rfl rfl ?_
              refine wp_iadd (n := 51) dX3_fork_50 rfl ?_
              refine wp_iload_n (n := 52) (i := 1) (q := 3) dX3_fork_51 rfl rfl rfl ?_
              refine wp_pI (n := 53) dX3_fork_52 rfl (pI_mono h (fun w52 h => ?_))
              refine wp_iload_n (n := 54) (i := 3) (q := 0) dX3_fork_53 rfl rfl rfl ?_
              exact wp_ireturn dX3_fork_54 rfl h
            · exact h.elim
          · exact h.elim
        · replace h := h.2 c19
          refine wp_bipush (n := 24) (v := (-4)) dX3_fork_22 rfl (by decide) ?_
          exact wp_ireturn dX3_fork_24 rfl h
      · exact h.elim
    · replace h := h.2 c8
      refine wp_iload_n (n := 12) (i := 2) (q := 0) dX3_fork_11 rfl rfl rfl ?_
      exact wp_ireturn dX3_fork_12 rfl h
  · exact h.elim
set_option maxHeartbeats 1000000 in
theorem sg_X3_originOf_0 {h0 : Nat} {i1 : Int32} {rc rs : Nat} {QR : Option aV → aW → Prop} {QX : String → aW → Prop} {w : aW} (h : ∃ x1 : Nat, gf w h0 [3] 1 (vR (some x1)) ∧ ∃ x8 : Int32, gI w x1 (42 + i1) x8 ∧ wp (KX3_originOf) rc rs QR QX 10 [(0, vR (some h0)), (1, vI i1), (2, vI x8)] [] w) : wp (KX3_originOf) rc rs QR QX 0 [(0, vR (some h0)), (1, vI i1)] [] w := by
  refine wp_aload_n (n := 1) (i := 0) (q := 0) dX3_originOf_0 rfl rfl rfl ?_
  obtain ⟨x1, g1, h⟩ := h
  refine wp_gf (n := 4) dX3_originOf_1 rfl fl_X3_7 g1 ?_
  refine wp_bipush (n := 6) (v := 42) dX3_originOf_4 rfl (by decide) ?_
  refine wp_iload_n (n := 7) (i := 1) (q := 1) dX3_originOf_6 rfl rfl rfl ?_
  refine wp_iadd (n := 8) dX3_originOf_7 rfl ?_
  obtain ⟨x8, g8, h⟩ := h
  refine wp_gI (n := 9) dX3_originOf_8 rfl g8 ?_
  refine wp_istore_n (n := 10) (i := 2) (ls' := [(2, vI x8), (0, vR (some h0)), (1, vI i1)]) dX3_originOf_9 rfl rfl (Nat.le_of_ble_eq_true rfl) rfl ?_
  exact wp_sub [1, 2, 0] rfl h
set_option maxHeartbeats 1000000 in
theorem sg_X3_originOf_10 {h0 : Nat} {i1 : Int32} {i2 : Int32} {rc rs : Nat} {QR : Option aV → aW → Prop} {QX : String → aW → Prop} {w : aW} (h : (i2 = (-1) → QR (some (vI i2)) w) ∧ (¬ i2 = (-1) → ∃ x16 : Nat, gf w h0 [3] 1 (vR (some x16)) ∧ ∃ x23 : Int32, gI w x16 (62 + i2) x23 ∧ (¬ x23 = i1 → QR (some (vI i2)) w) ∧ (x23 = i1 → ∃ x29 : Nat, gf w h0 [3] 1 (vR (some x29)) ∧ ∃ x36 : Int32, gI w x29 (42 + i2) x36 ∧ wp (KX3_originOf) rc rs QR QX 10 [(0, vR (some h0)), (1, vI i1), (2, vI x36)] [] w))) : wp (KX3_originOf) rc rs QR QX 10 [(0, vR (some h0)), (1, vI i1), (2, vI i2)] [] w := by
  refine wp_iload_n (n := 11) (i := 2) (q := 2) dX3_originOf_10 rfl rfl rfl ?_
  refine wp_iconst (n := 12) (v := (-1)) dX3_originOf_11 rfl (by decide) ?_
  refine wp_icmp_eq (n := 15) (t := 41) dX3_originOf_12 rfl (by decide) (fun c12 => ?_) (fun c12 => ?_)
  · replace h := h.1 c12
    refine wp_iload_n (n := 42) (i := 2) (q := 2) dX3_originOf_41 rfl rfl rfl ?_
    exact wp_ireturn dX3_originOf_42 rfl h
  · replace h := h.2 c12
    refine wp_aload_n (n := 16) (i := 0) (q := 0) dX3_originOf_15 rfl rfl rfl ?_
    obtain ⟨x16, g16, h⟩ := h
    refine wp_gf (n := 19) dX3_originOf_16 rfl fl_X3_7 g16 ?_
    refine wp_bipush (n := 21) (v := 62) dX3_originOf_19 rfl (by decide) ?_
    refine wp_iload_n (n := 22) (i := 2) (q := 2) dX3_originOf_21 rfl rfl rfl ?_
    refine wp_iadd (n := 23) dX3_originOf_22 rfl ?_
    obtain ⟨x23, g23, h⟩ := h
    refine wp_gI (n := 24) dX3_originOf_23 rfl g23 ?_
    refine wp_iload_n (n := 25) (i := 1) (q := 1) dX3_originOf_24 rfl rfl rfl ?_
    refine wp_icmp_ne (n := 28) (t := 41) dX3_originOf_25 rfl (by decide) (fun c25 => ?_) (fun c25 => ?_)
    · replace h := h.1 c25
      refine wp_iload_n (n := 42) (i := 2) (q := 2) dX3_originOf_41 rfl rfl rfl ?_
      exact wp_ireturn dX3_originOf_42 rfl h
    · replace h := h.2 c25
      refine wp_aload_n (n := 29) (i := 0) (q := 0) dX3_originOf_28 rfl rfl rfl ?_
      obtain ⟨x29, g29, h⟩ := h
      refine wp_gf (n := 32) dX3_originOf_29 rfl fl_X3_7 g29 ?_
      refine wp_bipush (n := 34) (v := 42) dX3_originOf_32 rfl (by decide) ?_
      refine wp_iload_n (n := 35) (i := 2) (q := 2) dX3_originOf_34 rfl rfl rfl ?_
      refine wp_iadd (n := 36) dX3_originOf_35 rfl ?_
      obtain ⟨x36, g36, h⟩ := h
      refine wp_gI (n := 37) dX3_originOf_36 rfl g36 ?_
      refine wp_istore_n (n := 38) (i := 2) (ls' := [(2, vI x36), (0, vR (some h0)), (1, vI i1)]) dX3_originOf_37 rfl rfl (Nat.le_of_ble_eq_true rfl) rfl ?_
      refine wp_goto (t := 10) dX3_originOf_38 (by decide) ?_
      exact wp_sub [1, 2, 0] rfl h
set_option maxHeartbeats 1000000 in
theorem sg_X3_promote_0 {h0 : Nat} {i1 : Int32} {rc rs : Nat} {QR : Option aV → aW → Prop} {QX : String → aW → Prop} {w : aW} (h : isO w h0 3 ∧ ct (KX3_asked) 0 0 [vR (some h0), vI i1, vI 0] w (fun v3 w3 => ∃ x3 : Int32, v3 = some (vI x3) ∧ (x3 = 0 → isO w3 h0 3 ∧ ct (KX3_originOf) 0 0 [vR (some h0), vI i1] w3 (fun v15 w15 => ∃ x15 : Int32, v15 = some (vI x15) ∧ (¬ x15 = (-1) → ∃ x28 : Nat, gf w15 h0 [3] 1 (vR (some x28)) ∧ ∃ x35 : Int32, gI w15 x28 (62 + x15) x35 ∧ ∃ x42 : Nat, gf w15 h0 [3] 1 (vR (some x42)) ∧ ∃ x49 : Int32, gI w15 x42 (42 + i1) x49 ∧ wp (KX3_promote) rc rs QR QX 52 [(0, vR (some h0)), (1, vI i1), (2, vI x3), (3, vI x15), (4, vI x35), (5, vI 0), (6, vI x49)] [] w15) ∧ (x15 = (-1) → QR (some (vI (-3))) w15)) (fun E15 w15 => False)) ∧ (¬ x3 = 0 → QR (some (vI x3)) w3)) (fun E3 w3 => False)) : wp (KX3_promote) rc rs QR QX 0 [(0, vR (some h0)), (1, vI i1)] [] w := by
  refine wp_aload_n (n := 1) (i := 0) (q := 0) dX3_promote_0 rfl rfl rfl ?_
  refine wp_iload_n (n := 2) (i := 1) (q := 1) dX3_promote_1 rfl rfl rfl ?_
  refine wp_iconst (n := 3) (v := 0) dX3_promote_2 rfl (by decide) ?_
  obtain ⟨⟨fs3, o3⟩, h⟩ := h
  refine wp_call (n := 6) (K' := KX3_asked) (rc' := rc) (rs' := rs) (aRun_V (K' := KX3_asked) (As := [vI i1, vI 0]) (rest := []) (b := h0) (c0 := .inr (3, fs3)) dX3_promote_3 (aCal_of kf_X3_asked (Nat.le_of_ble_eq_true rfl)) q1092 q1094 qs53 ar_X3_asked o3 (by decide : 3 < 9) rfl (Nat.le_of_ble_eq_true rfl)) rfl (Nat.le_of_eq (Nat.zero_add _)) (Nat.le_of_eq (Nat.zero_add _)) (fun v3 w3 h => ?_) (fun E3 w3 h => ?_) h
  · obtain ⟨x3, rfl, h⟩ := h
    refine wp_istore_n (n := 7) (i := 2) (ls' := [(2, vI x3), (0, vR (some h0)), (1, vI i1)]) dX3_promote_6 rfl rfl (Nat.le_of_ble_eq_true rfl) rfl ?_
    refine wp_iload_n (n := 8) (i := 2) (q := 0) dX3_promote_7 rfl rfl rfl ?_
    refine wp_if_eq (n := 11) (t := 13) dX3_promote_8 rfl (by decide) (fun c8 => ?_) (fun c8 => ?_)
    · replace h := h.1 c8
      refine wp_aload_n (n := 14) (i := 0) (q := 1) dX3_promote_13 rfl rfl rfl ?_
      refine wp_iload_n (n := 15) (i := 1) (q := 2) dX3_promote_14 rfl rfl rfl ?_
      obtain ⟨⟨fs15, o15⟩, h⟩ := h
      refine wp_call (n := 18) (K' := KX3_originOf) (rc' := rc) (rs' := rs) (aRun_V (K' := KX3_originOf) (As := [vI i1]) (rest := []) (b := h0) (c0 := .inr (3, fs15)) dX3_promote_15 (aCal_of kf_X3_originOf (Nat.le_of_ble_eq_true rfl)) q1191 q1193 qs70 ar_X3_originOf o15 (by decide : 3 < 9) rfl (Nat.le_of_ble_eq_true rfl)) rfl (Nat.le_of_eq (Nat.zero_add _)) (Nat.le_of_eq (Nat.zero_add _)) (fun v15 w15 h => ?_) (fun E15 w15 h => ?_) h
      · obtain ⟨x15, rfl, h⟩ := h
        refine wp_istore_n (n := 19) (i := 3) (ls' := [(3, vI x15), (2, vI x3), (0, vR (some h0)), (1, vI i1)]) dX3_promote_18 rfl rfl (Nat.le_of_ble_eq_true rfl) rfl ?_
        refine wp_iload_n (n := 20) (i := 3) (q := 0) dX3_promote_19 rfl rfl rfl ?_
        refine wp_iconst (n := 21) (v := (-1)) dX3_promote_20 rfl (by decide) ?_
        refine wp_icmp_ne (n := 24) (t := 27) dX3_promote_21 rfl (by decide) (fun c21 => ?_) (fun c21 => ?_)
        · replace h := h.1 c21
          refine wp_aload_n (n := 28) (i := 0) (q := 2) dX3_promote_27 rfl rfl rfl ?_
          obtain ⟨x28, g28, h⟩ := h
          refine wp_gf (n := 31) dX3_promote_28 rfl fl_X3_7 g28 ?_
          refine wp_bipush (n := 33) (v := 62) dX3_promote_31 rfl (by decide) ?_
          refine wp_iload_n (n := 34) (i := 3) (q := 0) dX3_promote_33 rfl rfl rfl ?_
          refine wp_iadd (n := 35) dX3_promote_34 rfl ?_
          obtain ⟨x35, g35, h⟩ := h
          refine wp_gI (n := 36) dX3_promote_35 rfl g35 ?_
          refine wp_istore (n := 38) (i := 4) (ls' := [(4, vI x35), (3, vI x15), (2, vI x3), (0, vR (some h0)), (1, vI i1)]) dX3_promote_36 rfl (Nat.le_of_ble_eq_true rfl) rfl ?_
          refine wp_iconst (n := 39) (v := 0) dX3_promote_38 rfl (by decide) ?_
          refine wp_istore (n := 41) (i := 5) (ls' := [(5, vI 0), (4, vI x35), (3, vI x15), (2, vI x3), (0, vR (some h0)), (1, vI i1)]) dX3_promote_39 rfl (Nat.le_of_ble_eq_true rfl) rfl ?_
          refine wp_aload_n (n := 42) (i := 0) (q := 4) dX3_promote_41 rfl rfl rfl ?_
          obtain ⟨x42, g42, h⟩ := h
          refine wp_gf (n := 45) dX3_promote_42 rfl fl_X3_7 g42 ?_
          refine wp_bipush (n := 47) (v := 42) dX3_promote_45 rfl (by decide) ?_
          refine wp_iload_n (n := 48) (i := 1) (q := 5) dX3_promote_47 rfl rfl rfl ?_
          refine wp_iadd (n := 49) dX3_promote_48 rfl ?_
          obtain ⟨x49, g49, h⟩ := h
          refine wp_gI (n := 50) dX3_promote_49 rfl g49 ?_
          refine wp_istore (n := 52) (i := 6) (ls' := [(6, vI x49), (5, vI 0), (4, vI x35), (3, vI x15), (2, vI x3), (0, vR (some h0)), (1, vI i1)]) dX3_promote_50 rfl (Nat.le_of_ble_eq_true rfl) rfl ?_
          exact wp_sub [5, 6, 4, 3, 2, 1, 0] rfl h
        · replace h := h.2 c21
          refine wp_bipush (n := 26) (v := (-3)) dX3_promote_24 rfl (by decide) ?_
          exact wp_ireturn dX3_promote_26 rfl h
      · exact h.elim
    · replace h := h.2 c8
      refine wp_iload_n (n := 12) (i := 2) (q := 0) dX3_promote_11 rfl rfl rfl ?_
      exact wp_ireturn dX3_promote_12 rfl h
  · exact h.elim
set_option maxHeartbeats 1000000 in
theorem sg_X3_promote_52 {h0 : Nat} {i1 : Int32} {i2 : Int32} {i3 : Int32} {i4 : Int32} {i5 : Int32} {i6 : Int32} {rc rs : Nat} {QR : Option aV → aW → Prop} {QX : String → aW → Prop} {w : aW} (h : (i6 = (-1) → QR (some (vI i5)) w) ∧ (¬ i6 = (-1) → ∃ x59 : Nat, gf w h0 [3] 1 (vR (some x59)) ∧ ∃ x67 : Int32, gI w x59 (62 + i6) x67 ∧ (¬ x67 = i4 → ∃ x88 : Nat, gf w h0 [3] 1 (vR (some x88)) ∧ ∃ x96 : Int32, gI w x88 (42 + i6) x96 ∧ wp (KX3_promote) rc rs QR QX 52 [(0, vR (some h0)), (1, vI i1), (2, vI i2), (3, vI i3), (4, vI i4), (5, vI i5), (6, vI x96)] [] w) ∧ (x67 = i4 → ∃ x74 : Nat, gf w h0 [3] 1 (vR (some x74)) ∧ pI w x74 (62 + i6) i1 (fun w83 => ∃ x88 : Nat, gf w83 h0 [3] 1 (vR (some x88)) ∧ ∃ x96 : Int32, gI w83 x88 (42 + i6) x96 ∧ wp (KX3_promote) rc rs QR QX 52 [(0, vR (some h0)), (1, vI i1), (2, vI i2), (3, vI i3), (4, vI i4), (5, vI (i5 + 1)), (6, vI x96)] [] w83)))) : wp (KX3_promote) rc rs QR QX 52 [(0, vR (some h0)), (1, vI i1), (2, vI i2), (3, vI i3), (4, vI i4), (5, vI i5), (6, vI i6)] [] w := by
  refine wp_iload (n := 54) (i := 6) (q := 6) dX3_promote_52 rfl rfl ?_
  refine wp_iconst (n := 55) (v := (-1)) dX3_promote_54 rfl (by decide) ?_
  refine wp_icmp_eq (n := 58) (t := 102) dX3_promote_55 rfl (by decide) (fun c55 => ?_) (fun c55 => ?_)
  · replace h := h.1 c55
    refine wp_iload (n := 104) (i := 5) (q := 5) dX3_promote_102 rfl rfl ?_
    exact wp_ireturn dX3_promote_104 rfl h
  · replace h := h.2 c55
    refine wp_aload_n (n := 59) (i := 0) (q := 0) dX3_promote_58 rfl rfl rfl ?_
    obtain ⟨x59, g59, h⟩ := h
    refine wp_gf (n := 62) dX3_promote_59 rfl fl_X3_7 g59 ?_
    refine wp_bipush (n := 64) (v := 62) dX3_promote_62 rfl (by decide) ?_
    refine wp_iload (n := 66) (i := 6) (q := 6) dX3_promote_64 rfl rfl ?_
    refine wp_iadd (n := 67) dX3_promote_66 rfl ?_
    obtain ⟨x67, g67, h⟩ := h
    refine wp_gI (n := 68) dX3_promote_67 rfl g67 ?_
    refine wp_iload (n := 70) (i := 4) (q := 4) dX3_promote_68 rfl rfl ?_
    refine wp_icmp_ne (n := 73) (t := 87) dX3_promote_70 rfl (by decide) (fun c70 => ?_) (fun c70 => ?_)
    · replace h := h.1 c70
      refine wp_aload_n (n := 88) (i := 0) (q := 0) dX3_promote_87 rfl rfl rfl ?_
      obtain ⟨x88, g88, h⟩ := h
      refine wp_gf (n := 91) dX3_promote_88 rfl fl_X3_7 g88 ?_
      refine wp_bipush (n := 93) (v := 42) dX3_promote_91 rfl (by decide) ?_
      refine wp_iload (n := 95) (i := 6) (q := 6) dX3_promote_93 rfl rfl ?_
      refine wp_iadd (n := 96) dX3_promote_95 rfl ?_
      obtain ⟨x96, g96, h⟩ := h
      refine wp_gI (n := 97) dX3_promote_96 rfl g96 ?_
      refine wp_istore (n := 99) (i := 6) (ls' := [(6, vI x96), (0, vR (some h0)), (1, vI i1), (2, vI i2), (3, vI i3), (4, vI i4), (5, vI i5)]) dX3_promote_97 rfl (Nat.le_of_ble_eq_true rfl) rfl ?_
      refine wp_goto (t := 52) dX3_promote_99 (by decide) ?_
      exact wp_sub [1, 2, 3, 4, 5, 6, 0] rfl h
    · replace h := h.2 c70
      refine wp_aload_n (n := 74) (i := 0) (q := 0) dX3_promote_73 rfl rfl rfl ?_
      obtain ⟨x74, g74, h⟩ := h
      refine wp_gf (n := 77) dX3_promote_74 rfl fl_X3_7 g74 ?_
      refine wp_bipush (n := 79) (v := 62) dX3_promote_77 rfl (by decide) ?_
      refine wp_iload (n := 81) (i := 6) (q := 6) dX3_promote_79 rfl rfl ?_
      refine wp_iadd (n := 82) dX3_promote_81 rfl ?_
      refine wp_iload_n (n := 83) (i := 1) (q := 1) dX3_promote_82 rfl rfl rfl ?_
      refine wp_pI (n := 84) dX3_promote_83 rfl (pI_mono h (fun w83 h => ?_))
      refine wp_iinc (n := 87) (i := 5) (q := 5) (v := i5 + 1) (ls' := [(5, vI (i5 + 1)), (0, vR (some h0)), (1, vI i1), (2, vI i2), (3, vI i3), (4, vI i4), (6, vI i6)]) dX3_promote_84 rfl rfl rfl (Nat.le_of_ble_eq_true rfl) rfl ?_
      refine wp_aload_n (n := 88) (i := 0) (q := 1) dX3_promote_87 rfl rfl rfl ?_
      obtain ⟨x88, g88, h⟩ := h
      refine wp_gf (n := 91) dX3_promote_88 rfl fl_X3_7 g88 ?_
      refine wp_bipush (n := 93) (v := 42) dX3_promote_91 rfl (by decide) ?_
      refine wp_iload (n := 95) (i := 6) (q := 6) dX3_promote_93 rfl rfl ?_
      refine wp_iadd (n := 96) dX3_promote_95 rfl ?_
      obtain ⟨x96, g96, h⟩ := h
      refine wp_gI (n := 97) dX3_promote_96 rfl g96 ?_
      refine wp_istore (n := 99) (i := 6) (ls' := [(6, vI x96), (5, vI (i5 + 1)), (0, vR (some h0)), (1, vI i1), (2, vI i2), (3, vI i3), (4, vI i4)]) dX3_promote_97 rfl (Nat.le_of_ble_eq_true rfl) rfl ?_
      refine wp_goto (t := 52) dX3_promote_99 (by decide) ?_
      exact wp_sub [2, 3, 4, 5, 6, 1, 0] rfl h
set_option maxHeartbeats 1000000 in
theorem sg_X3_rollback_0 {h0 : Nat} {i1 : Int32} {rc rs : Nat} {QR : Option aV → aW → Prop} {QX : String → aW → Prop} {w : aW} (h : isO w h0 3 ∧ ct (KX3_asked) 0 0 [vR (some h0), vI i1, vI 0] w (fun v3 w3 => ∃ x3 : Int32, v3 = some (vI x3) ∧ (x3 = 0 → ∃ x14 : Nat, gf w3 h0 [3] 1 (vR (some x14)) ∧ ∃ x21 : Int32, gI w3 x14 (42 + i1) x21 ∧ (¬ x21 = (-1) → ∃ x32 : Nat, gf w3 h0 [3] 1 (vR (some x32)) ∧ ∃ x39 : Int32, gI w3 x32 (42 + i1) x39 ∧ isO w3 h0 3 ∧ ct (KX3_takesSlots) 0 0 [vR (some h0), vI i1, vI x39] w3 (fun v40 w40 => v40 = none ∧ isO w40 h0 3 ∧ ct (KX3_frees) 0 0 [vR (some h0)] w40 (fun v44 w44 => ∃ x44 : Int32, v44 = some (vI x44) ∧ QR (some (vI x44)) w44) (fun E44 w44 => False)) (fun E40 w40 => False)) ∧ (x21 = (-1) → QR (some (vI (-3))) w3)) ∧ (¬ x3 = 0 → QR (some (vI x3)) w3)) (fun E3 w3 => False)) : wp (KX3_rollback) rc rs QR QX 0 [(0, vR (some h0)), (1, vI i1)] [] w := by
  refine wp_aload_n (n := 1) (i := 0) (q := 0) dX3_rollback_0 rfl rfl rfl ?_
  refine wp_iload_n (n := 2) (i := 1) (q := 1) dX3_rollback_1 rfl rfl rfl ?_
  refine wp_iconst (n := 3) (v := 0) dX3_rollback_2 rfl (by decide) ?_
  obtain ⟨⟨fs3, o3⟩, h⟩ := h
  refine wp_call (n := 6) (K' := KX3_asked) (rc' := rc) (rs' := rs) (aRun_V (K' := KX3_asked) (As := [vI i1, vI 0]) (rest := []) (b := h0) (c0 := .inr (3, fs3)) dX3_rollback_3 (aCal_of kf_X3_asked (Nat.le_of_ble_eq_true rfl)) q1092 q1094 qs53 ar_X3_asked o3 (by decide : 3 < 9) rfl (Nat.le_of_ble_eq_true rfl)) rfl (Nat.le_of_eq (Nat.zero_add _)) (Nat.le_of_eq (Nat.zero_add _)) (fun v3 w3 h => ?_) (fun E3 w3 h => ?_) h
  · obtain ⟨x3, rfl, h⟩ := h
    refine wp_istore_n (n := 7) (i := 2) (ls' := [(2, vI x3), (0, vR (some h0)), (1, vI i1)]) dX3_rollback_6 rfl rfl (Nat.le_of_ble_eq_true rfl) rfl ?_
    refine wp_iload_n (n := 8) (i := 2) (q := 0) dX3_rollback_7 rfl rfl rfl ?_
    refine wp_if_eq (n := 11) (t := 13) dX3_rollback_8 rfl (by decide) (fun c8 => ?_) (fun c8 => ?_)
    · replace h := h.1 c8
      refine wp_aload_n (n := 14) (i := 0) (q := 1) dX3_rollback_13 rfl rfl rfl ?_
      obtain ⟨x14, g14, h⟩ := h
      refine wp_gf (n := 17) dX3_rollback_14 rfl fl_X3_7 g14 ?_
      refine wp_bipush (n := 19) (v := 42) dX3_rollback_17 rfl (by decide) ?_
      refine wp_iload_n (n := 20) (i := 1) (q := 2) dX3_rollback_19 rfl rfl rfl ?_
      refine wp_iadd (n := 21) dX3_rollback_20 rfl ?_
      obtain ⟨x21, g21, h⟩ := h
      refine wp_gI (n := 22) dX3_rollback_21 rfl g21 ?_
      refine wp_iconst (n := 23) (v := (-1)) dX3_rollback_22 rfl (by decide) ?_
      refine wp_icmp_ne (n := 26) (t := 29) dX3_rollback_23 rfl (by decide) (fun c23 => ?_) (fun c23 => ?_)
      · replace h := h.1 c23
        refine wp_aload_n (n := 30) (i := 0) (q := 1) dX3_rollback_29 rfl rfl rfl ?_
        refine wp_iload_n (n := 31) (i := 1) (q := 2) dX3_rollback_30 rfl rfl rfl ?_
        refine wp_aload_n (n := 32) (i := 0) (q := 1) dX3_rollback_31 rfl rfl rfl ?_
        obtain ⟨x32, g32, h⟩ := h
        refine wp_gf (n := 35) dX3_rollback_32 rfl fl_X3_7 g32 ?_
        refine wp_bipush (n := 37) (v := 42) dX3_rollback_35 rfl (by decide) ?_
        refine wp_iload_n (n := 38) (i := 1) (q := 2) dX3_rollback_37 rfl rfl rfl ?_
        refine wp_iadd (n := 39) dX3_rollback_38 rfl ?_
        obtain ⟨x39, g39, h⟩ := h
        refine wp_gI (n := 40) dX3_rollback_39 rfl g39 ?_
        obtain ⟨⟨fs40, o40⟩, h⟩ := h
        refine wp_call (n := 43) (K' := KX3_takesSlots) (rc' := rc) (rs' := rs) (aRun_V (K' := KX3_takesSlots) (As := [vI i1, vI x39]) (rest := []) (b := h0) (c0 := .inr (3, fs40)) dX3_rollback_40 (aCal_of kf_X3_takesSlots (Nat.le_of_ble_eq_true rfl)) q1155 q1157 qs66 ar_X3_takesSlots o40 (by decide : 3 < 9) rfl (Nat.le_of_ble_eq_true rfl)) rfl (Nat.le_of_eq (Nat.zero_add _)) (Nat.le_of_eq (Nat.zero_add _)) (fun v40 w40 h => ?_) (fun E40 w40 h => ?_) h
        · obtain ⟨rfl, h⟩ := h
          refine wp_aload_n (n := 44) (i := 0) (q := 1) dX3_rollback_43 rfl rfl rfl ?_
          obtain ⟨⟨fs44, o44⟩, h⟩ := h
          refine wp_call (n := 47) (K' := KX3_frees) (rc' := rc) (rs' := rs) (aRun_V (K' := KX3_frees) (As := []) (rest := []) (b := h0) (c0 := .inr (3, fs44)) dX3_rollback_44 (aCal_of kf_X3_frees (Nat.le_of_ble_eq_true rfl)) q1123 q1125 qs60 ar_X3_frees o44 (by decide : 3 < 9) rfl (Nat.le_of_ble_eq_true rfl)) rfl (Nat.le_of_eq (Nat.zero_add _)) (Nat.le_of_eq (Nat.zero_add _)) (fun v44 w44 h => ?_) (fun E44 w44 h => ?_) h
          · obtain ⟨x44, rfl, h⟩ := h
            exact wp_ireturn dX3_rollback_47 rfl h
          · exact h.elim
        · exact h.elim
      · replace h := h.2 c23
        refine wp_bipush (n := 28) (v := (-3)) dX3_rollback_26 rfl (by decide) ?_
        exact wp_ireturn dX3_rollback_28 rfl h
    · replace h := h.2 c8
      refine wp_iload_n (n := 12) (i := 2) (q := 0) dX3_rollback_11 rfl rfl rfl ?_
      exact wp_ireturn dX3_rollback_12 rfl h
  · exact h.elim
set_option maxHeartbeats 1000000 in
theorem sg_X3_files_0 {h0 : Nat} {i1 : Int32} {rc rs : Nat} {QR : Option aV → aW → Prop} {QX : String → aW → Prop} {w : aW} (h : ct (KX3_in) 0 0 [vI i1, vI (-1), vI 1000000000] w (fun v4 w4 => ∃ x4 : Int32, v4 = some (vI x4) ∧ (¬ x4 = 0 → isO w4 h0 3 ∧ ct (KX3_newThing) 0 0 [vR (some h0)] w4 (fun v14 w14 => ∃ x14 : Int32, v14 = some (vI x14) ∧ (¬ x14 = 20 → (¬ i1 = (-1) → ∃ x37 : Nat, gf w14 h0 [3] 1 (vR (some x37)) ∧ ∃ x41 : Int32, gI w14 x37 0 x41 ∧ isO w14 h0 3 ∧ ct (KX3_comes) 0 0 [vR (some h0), vI 1, vI x41] w14 (fun v42 w42 => ∃ x42 : Int32, v42 = some (vI x42) ∧ ∃ x47 : Nat, gf w42 h0 [3] 1 (vR (some x47)) ∧ pI w42 x47 (82 + x42) i1 (fun w55 => QR (some (vI x42)) w55)) (fun E42 w42 => False)) ∧ (i1 = (-1) → ∃ x37 : Nat, gf w14 h0 [3] 1 (vR (some x37)) ∧ ∃ x41 : Int32, gI w14 x37 0 x41 ∧ isO w14 h0 3 ∧ ct (KX3_comes) 0 0 [vR (some h0), vI 0, vI x41] w14 (fun v42 w42 => ∃ x42 : Int32, v42 = some (vI x42) ∧ ∃ x47 : Nat, gf w42 h0 [3] 1 (vR (some x47)) ∧ pI w42 x47 (82 + x42) i1 (fun w55 => QR (some (vI x42)) w55)) (fun E42 w42 => False))) ∧ (x14 = 20 → QR (some (vI (-4))) w14)) (fun E14 w14 => False)) ∧ (x4 = 0 → QR (some (vI (-2))) w4)) (fun E4 w4 => False)) : wp (KX3_files) rc rs QR QX 0 [(0, vR (some h0)), (1, vI i1)] [] w := by
  refine wp_iload_n (n := 1) (i := 1) (q := 1) dX3_files_0 rfl rfl rfl ?_
  refine wp_iconst (n := 2) (v := (-1)) dX3_files_1 rfl (by decide) ?_
  refine wp_ldc (n := 4) dX3_files_2 rfl q1076 ?_
  refine wp_call (n := 7) (K' := KX3_in) (rc' := rc) (rs' := rs) (aRun_S (K' := KX3_in) (As := [vI i1, vI (-1), vI 1000000000]) (rest := []) dX3_files_4 (aCal_of kf_X3_in (Nat.le_of_ble_eq_true rfl)) rfl q1077 q1078 ar_X3_in rfl (Nat.le_of_ble_eq_true rfl)) rfl (Nat.le_of_eq (Nat.zero_add _)) (Nat.le_of_eq (Nat.zero_add _)) (fun v4 w4 h => ?_) (fun E4 w4 h => ?_) h
  · obtain ⟨x4, rfl, h⟩ := h
    refine wp_if_ne (n := 10) (t := 13) dX3_files_7 rfl (by decide) (fun c7 => ?_) (fun c7 => ?_)
    · replace h := h.1 c7
      refine wp_aload_n (n := 14) (i := 0) (q := 0) dX3_files_13 rfl rfl rfl ?_
      obtain ⟨⟨fs14, o14⟩, h⟩ := h
      refine wp_call (n := 17) (K' := KX3_newThing) (rc' := rc) (rs' := rs) (aRun_V (K' := KX3_newThing) (As := []) (rest := []) (b := h0) (c0 := .inr (3, fs14)) dX3_files_14 (aCal_of kf_X3_newThing (Nat.le_of_ble_eq_true rfl)) q1080 q1082 qs51 ar_X3_newThing o14 (by decide : 3 < 9) rfl (Nat.le_of_ble_eq_true rfl)) rfl (Nat.le_of_eq (Nat.zero_add _)) (Nat.le_of_eq (Nat.zero_add _)) (fun v14 w14 h => ?_) (fun E14 w14 h => ?_) h
      · obtain ⟨x14, rfl, h⟩ := h
        refine wp_bipush (n := 19) (v := 20) dX3_files_17 rfl (by decide) ?_
        refine wp_icmp_ne (n := 22) (t := 25) dX3_files_19 rfl (by decide) (fun c19 => ?_) (fun c19 => ?_)
        · replace h := h.1 c19
          refine wp_aload_n (n := 26) (i := 0) (q := 0) dX3_files_25 rfl rfl rfl ?_
          refine wp_iload_n (n := 27) (i := 1) (q := 1) dX3_files_26 rfl rfl rfl ?_
          refine wp_iconst (n := 28) (v := (-1)) dX3_files_27 rfl (by decide) ?_
          refine wp_icmp_ne (n := 31) (t := 35) dX3_files_28 rfl (by decide) (fun c28 => ?_) (fun c28 => ?_)
          · replace h := h.1 c28
            refine wp_iconst (n := 36) (v := 1) dX3_files_35 rfl (by decide) ?_
            refine wp_aload_n (n := 37) (i := 0) (q := 0) dX3_files_36 rfl rfl rfl ?_
            obtain ⟨x37, g37, h⟩ := h
            refine wp_gf (n := 40) dX3_files_37 rfl fl_X3_7 g37 ?_
            refine wp_iconst (n := 41) (v := 0) dX3_files_40 rfl (by decide) ?_
            obtain ⟨x41, g41, h⟩ := h
            refine wp_gI (n := 42) dX3_files_41 rfl g41 ?_
            obtain ⟨⟨fs42, o42⟩, h⟩ := h
            refine wp_call (n := 45) (K' := KX3_comes) (rc' := rc) (rs' := rs) (aRun_V (K' := KX3_comes) (As := [vI 1, vI x41]) (rest := []) (b := h0) (c0 := .inr (3, fs42)) dX3_files_42 (aCal_of kf_X3_comes (Nat.le_of_ble_eq_true rfl)) q1084 q1086 qs52 ar_X3_comes o42 (by decide : 3 < 9) rfl (Nat.le_of_ble_eq_true rfl)) rfl (Nat.le_of_eq (Nat.zero_add _)) (Nat.le_of_eq (Nat.zero_add _)) (fun v42 w42 h => ?_) (fun E42 w42 h => ?_) h
            · obtain ⟨x42, rfl, h⟩ := h
              refine wp_istore_n (n := 46) (i := 2) (ls' := [(2, vI x42), (0, vR (some h0)), (1, vI i1)]) dX3_files_45 rfl rfl (Nat.le_of_ble_eq_true rfl) rfl ?_
              refine wp_aload_n (n := 47) (i := 0) (q := 1) dX3_files_46 rfl rfl rfl ?_
              obtain ⟨x47, g47, h⟩ := h
              refine wp_gf (n := 50) dX3_files_47 rfl fl_X3_7 g47 ?_
              refine wp_bipush (n := 52) (v := 82) dX3_files_50 rfl (by decide) ?_
              refine wp_iload_n (n := 53) (i := 2) (q := 0) dX3_files_52 rfl rfl rfl ?_
              refine wp_iadd (n := 54) dX3_files_53 rfl ?_
              refine wp_iload_n (n := 55) (i := 1) (q := 2) dX3_files_54 rfl rfl rfl ?_
              refine wp_pI (n := 56) dX3_files_55 rfl (pI_mono h (fun w55 h => ?_))
              refine wp_iload_n (n := 57) (i := 2) (q := 0) dX3_files_56 rfl rfl rfl ?_
              exact wp_ireturn dX3_files_57 rfl h
            · exact h.elim
          · replace h := h.2 c28
            refine wp_iconst (n := 32) (v := 0) dX3_files_31 rfl (by decide) ?_
            refine wp_goto (t := 36) dX3_files_32 (by decide) ?_
            refine wp_aload_n (n := 37) (i := 0) (q := 0) dX3_files_36 rfl rfl rfl ?_
            obtain ⟨x37, g37, h⟩ := h
            refine wp_gf (n := 40) dX3_files_37 rfl fl_X3_7 g37 ?_
            refine wp_iconst (n := 41) (v := 0) dX3_files_40 rfl (by decide) ?_
            obtain ⟨x41, g41, h⟩ := h
            refine wp_gI (n := 42) dX3_files_41 rfl g41 ?_
            obtain ⟨⟨fs42, o42⟩, h⟩ := h
            refine wp_call (n := 45) (K' := KX3_comes) (rc' := rc) (rs' := rs) (aRun_V (K' := KX3_comes) (As := [vI 0, vI x41]) (rest := []) (b := h0) (c0 := .inr (3, fs42)) dX3_files_42 (aCal_of kf_X3_comes (Nat.le_of_ble_eq_true rfl)) q1084 q1086 qs52 ar_X3_comes o42 (by decide : 3 < 9) rfl (Nat.le_of_ble_eq_true rfl)) rfl (Nat.le_of_eq (Nat.zero_add _)) (Nat.le_of_eq (Nat.zero_add _)) (fun v42 w42 h => ?_) (fun E42 w42 h => ?_) h
            · obtain ⟨x42, rfl, h⟩ := h
              refine wp_istore_n (n := 46) (i := 2) (ls' := [(2, vI x42), (0, vR (some h0)), (1, vI i1)]) dX3_files_45 rfl rfl (Nat.le_of_ble_eq_true rfl) rfl ?_
              refine wp_aload_n (n := 47) (i := 0) (q := 1) dX3_files_46 rfl rfl rfl ?_
              obtain ⟨x47, g47, h⟩ := h
              refine wp_gf (n := 50) dX3_files_47 rfl fl_X3_7 g47 ?_
              refine wp_bipush (n := 52) (v := 82) dX3_files_50 rfl (by decide) ?_
              refine wp_iload_n (n := 53) (i := 2) (q := 0) dX3_files_52 rfl rfl rfl ?_
              refine wp_iadd (n := 54) dX3_files_53 rfl ?_
              refine wp_iload_n (n := 55) (i := 1) (q := 2) dX3_files_54 rfl rfl rfl ?_
              refine wp_pI (n := 56) dX3_files_55 rfl (pI_mono h (fun w55 h => ?_))
              refine wp_iload_n (n := 57) (i := 2) (q := 0) dX3_files_56 rfl rfl rfl ?_
              exact wp_ireturn dX3_files_57 rfl h
            · exact h.elim
        · replace h := h.2 c19
          refine wp_bipush (n := 24) (v := (-4)) dX3_files_22 rfl (by decide) ?_
          exact wp_ireturn dX3_files_24 rfl h
      · exact h.elim
    · replace h := h.2 c7
      refine wp_bipush (n := 12) (v := (-2)) dX3_files_10 rfl (by decide) ?_
      exact wp_ireturn dX3_files_12 rfl h
  · exact h.elim
set_option maxHeartbeats 1000000 in
theorem sg_X3_draws_0 {h0 : Nat} {i1 : Int32} {i2 : Int32} {i3 : Int32} {rc rs : Nat} {QR : Option aV → aW → Prop} {QX : String → aW → Prop} {w : aW} (h : (8 ≤ i1 → (11 ≤ i1 → (15 ≤ i1 → (19 ≤ i1 → (21 ≤ i1 → (¬ i1 = 21 → (¬ i1 = 22 → isO w h0 3 ∧ ct (KX3_files) 0 0 [vR (some h0), vI (-1)] w (fun v135 w135 => ∃ x135 : Int32, v135 = some (vI x135) ∧ QR none w135) (fun E135 w135 => False)) ∧ (i1 = 22 → isO w h0 3 ∧ ct (KX3_rollback) 0 0 [vR (some h0), vI (i2 - i2 / 20 * 20)] w (fun v126 w126 => ∃ x126 : Int32, v126 = some (vI x126) ∧ QR none w126) (fun E126 w126 => False))) ∧ (i1 = 21 → isO w h0 3 ∧ ct (KX3_promote) 0 0 [vR (some h0), vI (i2 - i2 / 20 * 20)] w (fun v110 w110 => ∃ x110 : Int32, v110 = some (vI x110) ∧ QR none w110) (fun E110 w110 => False))) ∧ (¬ 21 ≤ i1 → isO w h0 3 ∧ ct (KX3_fork) 0 0 [vR (some h0), vI (i2 - i2 / 20 * 20)] w (fun v94 w94 => ∃ x94 : Int32, v94 = some (vI x94) ∧ QR none w94) (fun E94 w94 => False))) ∧ (¬ 19 ≤ i1 → isO w h0 3 ∧ ct (KX3_remove) 0 0 [vR (some h0), vI (i2 - i2 / 20 * 20)] w (fun v78 w78 => ∃ x78 : Int32, v78 = some (vI x78) ∧ QR none w78) (fun E78 w78 => False))) ∧ (¬ 15 ≤ i1 → isO w h0 3 ∧ ct (KX3_snap) 0 0 [vR (some h0), vI (i2 - i2 / 20 * 20), vI (i3 / 20)] w (fun v62 w62 => ∃ x62 : Int32, v62 = some (vI x62) ∧ QR none w62) (fun E62 w62 => False))) ∧ (¬ 11 ≤ i1 → isO w h0 3 ∧ ct (KX3_erase) 0 0 [vR (some h0), vI (i2 - i2 / 20 * 20), vI (i3 - i3 / 12 * 12)] w (fun v42 w42 => ∃ x42 : Int32, v42 = some (vI x42) ∧ QR none w42) (fun E42 w42 => False))) ∧ (¬ 8 ≤ i1 → isO w h0 3 ∧ ct (KX3_write) 0 0 [vR (some h0), vI (i2 - i2 / 20 * 20), vI (i3 - i3 / 12 * 12), vI (1 + i2)] w (fun v22 w22 => ∃ x22 : Int32, v22 = some (vI x22) ∧ QR none w22) (fun E22 w22 => False))) : wp (KX3_draws) rc rs QR QX 0 [(0, vR (some h0)), (1, vI i1), (2, vI i2), (3, vI i3)] [] w := by
  refine wp_iload_n (n := 1) (i := 2) (q := 2) dX3_draws_0 rfl rfl rfl ?_
  refine wp_bipush (n := 3) (v := 20) dX3_draws_1 rfl (by decide) ?_
  refine wp_irem (n := 4) dX3_draws_3 rfl (by decide) ?_
  refine wp_istore (n := 6) (i := 4) (ls' := [(4, vI (i2 - i2 / 20 * 20)), (0, vR (some h0)), (1, vI i1), (2, vI i2), (3, vI i3)]) dX3_draws_4 rfl (Nat.le_of_ble_eq_true rfl) rfl ?_
  refine wp_iload_n (n := 7) (i := 1) (q := 2) dX3_draws_6 rfl rfl rfl ?_
  refine wp_bipush (n := 9) (v := 8) dX3_draws_7 rfl (by decide) ?_
  refine wp_icmp_ge (n := 12) (t := 29) dX3_draws_9 rfl (by decide) (fun c9 => ?_) (fun c9 => ?_)
  · replace h := h.1 c9
    refine wp_iload_n (n := 30) (i := 1) (q := 2) dX3_draws_29 rfl rfl rfl ?_
    refine wp_bipush (n := 32) (v := 11) dX3_draws_30 rfl (by decide) ?_
    refine wp_icmp_ge (n := 35) (t := 49) dX3_draws_32 rfl (by decide) (fun c32 => ?_) (fun c32 => ?_)
    · replace h := h.1 c32
      refine wp_iload_n (n := 50) (i := 1) (q := 2) dX3_draws_49 rfl rfl rfl ?_
      refine wp_bipush (n := 52) (v := 15) dX3_draws_50 rfl (by decide) ?_
      refine wp_icmp_ge (n := 55) (t := 69) dX3_draws_52 rfl (by decide) (fun c52 => ?_) (fun c52 => ?_)
      · replace h := h.1 c52
        refine wp_iload_n (n := 70) (i := 1) (q := 2) dX3_draws_69 rfl rfl rfl ?_
        refine wp_bipush (n := 72) (v := 19) dX3_draws_70 rfl (by decide) ?_
        refine wp_icmp_ge (n := 75) (t := 85) dX3_draws_72 rfl (by decide) (fun c72 => ?_) (fun c72 => ?_)
        · replace h := h.1 c72
          refine wp_iload_n (n := 86) (i := 1) (q := 2) dX3_draws_85 rfl rfl rfl ?_
          refine wp_bipush (n := 88) (v := 21) dX3_draws_86 rfl (by decide) ?_
          refine wp_icmp_ge (n := 91) (t := 101) dX3_draws_88 rfl (by decide) (fun c88 => ?_) (fun c88 => ?_)
          · replace h := h.1 c88
            refine wp_iload_n (n := 102) (i := 1) (q := 2) dX3_draws_101 rfl rfl rfl ?_
            refine wp_bipush (n := 104) (v := 21) dX3_draws_102 rfl (by decide) ?_
            refine wp_icmp_ne (n := 107) (t := 117) dX3_draws_104 rfl (by decide) (fun c104 => ?_) (fun c104 => ?_)
            · replace h := h.1 c104
              refine wp_iload_n (n := 118) (i := 1) (q := 2) dX3_draws_117 rfl rfl rfl ?_
              refine wp_bipush (n := 120) (v := 22) dX3_draws_118 rfl (by decide) ?_
              refine wp_icmp_ne (n := 123) (t := 133) dX3_draws_120 rfl (by decide) (fun c120 => ?_) (fun c120 => ?_)
              · replace h := h.1 c120
                refine wp_aload_n (n := 134) (i := 0) (q := 1) dX3_draws_133 rfl rfl rfl ?_
                refine wp_iconst (n := 135) (v := (-1)) dX3_draws_134 rfl (by decide) ?_
                obtain ⟨⟨fs135, o135⟩, h⟩ := h
                refine wp_call (n := 138) (K' := KX3_files) (rc' := rc) (rs' := rs) (aRun_V (K' := KX3_files) (As := [vI (-1)]) (rest := []) (b := h0) (c0 := .inr (3, fs135)) dX3_draws_135 (aCal_of kf_X3_files (Nat.le_of_ble_eq_true rfl)) q1358 q1073 q1074 ar_X3_files o135 (by decide : 3 < 9) rfl (Nat.le_of_ble_eq_true rfl)) rfl (Nat.le_of_eq (Nat.zero_add _)) (Nat.le_of_eq (Nat.zero_add _)) (fun v135 w135 h => ?_) (fun E135 w135 h => ?_) h
                · obtain ⟨x135, rfl, h⟩ := h
                  refine wp_pop (n := 139) dX3_draws_138 rfl rfl ?_
                  exact wp_return dX3_draws_139 rfl h
                · exact h.elim
              · replace h := h.2 c120
                refine wp_aload_n (n := 124) (i := 0) (q := 1) dX3_draws_123 rfl rfl rfl ?_
                refine wp_iload (n := 126) (i := 4) (q := 0) dX3_draws_124 rfl rfl ?_
                obtain ⟨⟨fs126, o126⟩, h⟩ := h
                refine wp_call (n := 129) (K' := KX3_rollback) (rc' := rc) (rs' := rs) (aRun_V (K' := KX3_rollback) (As := [vI (i2 - i2 / 20 * 20)]) (rest := []) (b := h0) (c0 := .inr (3, fs126)) dX3_draws_126 (aCal_of kf_X3_rollback (Nat.le_of_ble_eq_true rfl)) q1357 q1196 q1197 ar_X3_rollback o126 (by decide : 3 < 9) rfl (Nat.le_of_ble_eq_true rfl)) rfl (Nat.le_of_eq (Nat.zero_add _)) (Nat.le_of_eq (Nat.zero_add _)) (fun v126 w126 h => ?_) (fun E126 w126 h => ?_) h
                · obtain ⟨x126, rfl, h⟩ := h
                  refine wp_pop (n := 130) dX3_draws_129 rfl rfl ?_
                  refine wp_goto (t := 139) dX3_draws_130 (by decide) ?_
                  exact wp_return dX3_draws_139 rfl h
                · exact h.elim
            · replace h := h.2 c104
              refine wp_aload_n (n := 108) (i := 0) (q := 1) dX3_draws_107 rfl rfl rfl ?_
              refine wp_iload (n := 110) (i := 4) (q := 0) dX3_draws_108 rfl rfl ?_
              obtain ⟨⟨fs110, o110⟩, h⟩ := h
              refine wp_call (n := 113) (K' := KX3_promote) (rc' := rc) (rs' := rs) (aRun_V (K' := KX3_promote) (As := [vI (i2 - i2 / 20 * 20)]) (rest := []) (b := h0) (c0 := .inr (3, fs110)) dX3_draws_110 (aCal_of kf_X3_promote (Nat.le_of_ble_eq_true rfl)) q1356 q1188 q1189 ar_X3_promote o110 (by decide : 3 < 9) rfl (Nat.le_of_ble_eq_true rfl)) rfl (Nat.le_of_eq (Nat.zero_add _)) (Nat.le_of_eq (Nat.zero_add _)) (fun v110 w110 h => ?_) (fun E110 w110 h => ?_) h
              · obtain ⟨x110, rfl, h⟩ := h
                refine wp_pop (n := 114) dX3_draws_113 rfl rfl ?_
                refine wp_goto (t := 139) dX3_draws_114 (by decide) ?_
                exact wp_return dX3_draws_139 rfl h
              · exact h.elim
          · replace h := h.2 c88
            refine wp_aload_n (n := 92) (i := 0) (q := 1) dX3_draws_91 rfl rfl rfl ?_
            refine wp_iload (n := 94) (i := 4) (q := 0) dX3_draws_92 rfl rfl ?_
            obtain ⟨⟨fs94, o94⟩, h⟩ := h
            refine wp_call (n := 97) (K' := KX3_fork) (rc' := rc) (rs' := rs) (aRun_V (K' := KX3_fork) (As := [vI (i2 - i2 / 20 * 20)]) (rest := []) (b := h0) (c0 := .inr (3, fs94)) dX3_draws_94 (aCal_of kf_X3_fork (Nat.le_of_ble_eq_true rfl)) q1355 q1184 q1185 ar_X3_fork o94 (by decide : 3 < 9) rfl (Nat.le_of_ble_eq_true rfl)) rfl (Nat.le_of_eq (Nat.zero_add _)) (Nat.le_of_eq (Nat.zero_add _)) (fun v94 w94 h => ?_) (fun E94 w94 h => ?_) h
            · obtain ⟨x94, rfl, h⟩ := h
              refine wp_pop (n := 98) dX3_draws_97 rfl rfl ?_
              refine wp_goto (t := 139) dX3_draws_98 (by decide) ?_
              exact wp_return dX3_draws_139 rfl h
            · exact h.elim
        · replace h := h.2 c72
          refine wp_aload_n (n := 76) (i := 0) (q := 1) dX3_draws_75 rfl rfl rfl ?_
          refine wp_iload (n := 78) (i := 4) (q := 0) dX3_draws_76 rfl rfl ?_
          obtain ⟨⟨fs78, o78⟩, h⟩ := h
          refine wp_call (n := 81) (K' := KX3_remove) (rc' := rc) (rs' := rs) (aRun_V (K' := KX3_remove) (As := [vI (i2 - i2 / 20 * 20)]) (rest := []) (b := h0) (c0 := .inr (3, fs78)) dX3_draws_78 (aCal_of kf_X3_remove (Nat.le_of_ble_eq_true rfl)) q1354 q1168 q1169 ar_X3_remove o78 (by decide : 3 < 9) rfl (Nat.le_of_ble_eq_true rfl)) rfl (Nat.le_of_eq (Nat.zero_add _)) (Nat.le_of_eq (Nat.zero_add _)) (fun v78 w78 h => ?_) (fun E78 w78 h => ?_) h
          · obtain ⟨x78, rfl, h⟩ := h
            refine wp_pop (n := 82) dX3_draws_81 rfl rfl ?_
            refine wp_goto (t := 139) dX3_draws_82 (by decide) ?_
            exact wp_return dX3_draws_139 rfl h
          · exact h.elim
      · replace h := h.2 c52
        refine wp_aload_n (n := 56) (i := 0) (q := 1) dX3_draws_55 rfl rfl rfl ?_
        refine wp_iload (n := 58) (i := 4) (q := 0) dX3_draws_56 rfl rfl ?_
        refine wp_iload_n (n := 59) (i := 3) (q := 4) dX3_draws_58 rfl rfl rfl ?_
        refine wp_bipush (n := 61) (v := 20) dX3_draws_59 rfl (by decide) ?_
        refine wp_idiv (n := 62) dX3_draws_61 rfl (by decide) ?_
        obtain ⟨⟨fs62, o62⟩, h⟩ := h
        refine wp_call (n := 65) (K' := KX3_snap) (rc' := rc) (rs' := rs) (aRun_V (K' := KX3_snap) (As := [vI (i2 - i2 / 20 * 20), vI (i3 / 20)]) (rest := []) (b := h0) (c0 := .inr (3, fs62)) dX3_draws_62 (aCal_of kf_X3_snap (Nat.le_of_ble_eq_true rfl)) q1353 q1152 q1153 ar_X3_snap o62 (by decide : 3 < 9) rfl (Nat.le_of_ble_eq_true rfl)) rfl (Nat.le_of_eq (Nat.zero_add _)) (Nat.le_of_eq (Nat.zero_add _)) (fun v62 w62 h => ?_) (fun E62 w62 h => ?_) h
        · obtain ⟨x62, rfl, h⟩ := h
          refine wp_pop (n := 66) dX3_draws_65 rfl rfl ?_
          refine wp_goto (t := 139) dX3_draws_66 (by decide) ?_
          exact wp_return dX3_draws_139 rfl h
        · exact h.elim
    · replace h := h.2 c32
      refine wp_aload_n (n := 36) (i := 0) (q := 1) dX3_draws_35 rfl rfl rfl ?_
      refine wp_iload (n := 38) (i := 4) (q := 0) dX3_draws_36 rfl rfl ?_
      refine wp_iload_n (n := 39) (i := 3) (q := 4) dX3_draws_38 rfl rfl rfl ?_
      refine wp_bipush (n := 41) (v := 12) dX3_draws_39 rfl (by decide) ?_
      refine wp_irem (n := 42) dX3_draws_41 rfl (by decide) ?_
      obtain ⟨⟨fs42, o42⟩, h⟩ := h
      refine wp_call (n := 45) (K' := KX3_erase) (rc' := rc) (rs' := rs) (aRun_V (K' := KX3_erase) (As := [vI (i2 - i2 / 20 * 20), vI (i3 - i3 / 12 * 12)]) (rest := []) (b := h0) (c0 := .inr (3, fs42)) dX3_draws_42 (aCal_of kf_X3_erase (Nat.le_of_ble_eq_true rfl)) q1352 q1144 q1145 ar_X3_erase o42 (by decide : 3 < 9) rfl (Nat.le_of_ble_eq_true rfl)) rfl (Nat.le_of_eq (Nat.zero_add _)) (Nat.le_of_eq (Nat.zero_add _)) (fun v42 w42 h => ?_) (fun E42 w42 h => ?_) h
      · obtain ⟨x42, rfl, h⟩ := h
        refine wp_pop (n := 46) dX3_draws_45 rfl rfl ?_
        refine wp_goto (t := 139) dX3_draws_46 (by decide) ?_
        exact wp_return dX3_draws_139 rfl h
      · exact h.elim
  · replace h := h.2 c9
    refine wp_aload_n (n := 13) (i := 0) (q := 1) dX3_draws_12 rfl rfl rfl ?_
    refine wp_iload (n := 15) (i := 4) (q := 0) dX3_draws_13 rfl rfl ?_
    refine wp_iload_n (n := 16) (i := 3) (q := 4) dX3_draws_15 rfl rfl rfl ?_
    refine wp_bipush (n := 18) (v := 12) dX3_draws_16 rfl (by decide) ?_
    refine wp_irem (n := 19) dX3_draws_18 rfl (by decide) ?_
    refine wp_iconst (n := 20) (v := 1) dX3_draws_19 rfl (by decide) ?_
    refine wp_iload_n (n := 21) (i := 2) (q := 3) dX3_draws_20 rfl rfl rfl ?_
    refine wp_iadd (n := 22) dX3_draws_21 rfl ?_
    obtain ⟨⟨fs22, o22⟩, h⟩ := h
    refine wp_call (n := 25) (K' := KX3_write) (rc' := rc) (rs' := rs) (aRun_V (K' := KX3_write) (As := [vI (i2 - i2 / 20 * 20), vI (i3 - i3 / 12 * 12), vI (1 + i2)]) (rest := []) (b := h0) (c0 := .inr (3, fs22)) dX3_draws_22 (aCal_of kf_X3_write (Nat.le_of_ble_eq_true rfl)) q1351 q1089 q1090 ar_X3_write o22 (by decide : 3 < 9) rfl (Nat.le_of_ble_eq_true rfl)) rfl (Nat.le_of_eq (Nat.zero_add _)) (Nat.le_of_eq (Nat.zero_add _)) (fun v22 w22 h => ?_) (fun E22 w22 h => ?_) h
    · obtain ⟨x22, rfl, h⟩ := h
      refine wp_pop (n := 26) dX3_draws_25 rfl rfl ?_
      refine wp_goto (t := 139) dX3_draws_26 (by decide) ?_
      exact wp_return dX3_draws_139 rfl h
    · exact h.elim
set_option maxHeartbeats 1000000 in
theorem sg_X3_drawn_0 {h0 : Nat} {i1 : Int32} {i2 : Int32} {i3 : Int32} {rc rs : Nat} {QR : Option aV → aW → Prop} {QX : String → aW → Prop} {w : aW} (h : ct (KX3_in) 0 0 [vI i2, vI 0, vI 60] w (fun v4 w4 => ∃ x4 : Int32, v4 = some (vI x4) ∧ (x4 = 0 → QR (some (vL (-4611686018427387904))) w4) ∧ (¬ x4 = 0 → ct (KX3_in) 0 0 [vI i3, vI 0, vI 3] w4 (fun v13 w13 => ∃ x13 : Int32, v13 = some (vI x13) ∧ (¬ x13 = 0 → wp (KX3_drawn) rc rs QR QX 26 [(0, vR (some h0)), (1, vI i1), (2, vI i2), (3, vI i3), (4, vI 0)] [] w13) ∧ (x13 = 0 → QR (some (vL (-4611686018427387904))) w13)) (fun E13 w13 => False))) (fun E4 w4 => False)) : wp (KX3_drawn) rc rs QR QX 0 [(0, vR (some h0)), (1, vI i1), (2, vI i2), (3, vI i3)] [] w := by
  refine wp_iload_n (n := 1) (i := 2) (q := 2) dX3_drawn_0 rfl rfl rfl ?_
  refine wp_iconst (n := 2) (v := 0) dX3_drawn_1 rfl (by decide) ?_
  refine wp_bipush (n := 4) (v := 60) dX3_drawn_2 rfl (by decide) ?_
  refine wp_call (n := 7) (K' := KX3_in) (rc' := rc) (rs' := rs) (aRun_S (K' := KX3_in) (As := [vI i2, vI 0, vI 60]) (rest := []) dX3_drawn_4 (aCal_of kf_X3_in (Nat.le_of_ble_eq_true rfl)) rfl q1077 q1078 ar_X3_in rfl (Nat.le_of_ble_eq_true rfl)) rfl (Nat.le_of_eq (Nat.zero_add _)) (Nat.le_of_eq (Nat.zero_add _)) (fun v4 w4 h => ?_) (fun E4 w4 h => ?_) h
  · obtain ⟨x4, rfl, h⟩ := h
    refine wp_if_eq (n := 10) (t := 19) dX3_drawn_7 rfl (by decide) (fun c7 => ?_) (fun c7 => ?_)
    · replace h := h.1 c7
      refine wp_ldc2 (n := 22) dX3_drawn_19 rfl q1248 ?_
      exact wp_lreturn dX3_drawn_22 rfl h
    · replace h := h.2 c7
      refine wp_iload_n (n := 11) (i := 3) (q := 3) dX3_drawn_10 rfl rfl rfl ?_
      refine wp_iconst (n := 12) (v := 0) dX3_drawn_11 rfl (by decide) ?_
      refine wp_iconst (n := 13) (v := 3) dX3_drawn_12 rfl (by decide) ?_
      refine wp_call (n := 16) (K' := KX3_in) (rc' := rc) (rs' := rs) (aRun_S (K' := KX3_in) (As := [vI i3, vI 0, vI 3]) (rest := []) dX3_drawn_13 (aCal_of kf_X3_in (Nat.le_of_ble_eq_true rfl)) rfl q1077 q1078 ar_X3_in rfl (Nat.le_of_ble_eq_true rfl)) rfl (Nat.le_of_eq (Nat.zero_add _)) (Nat.le_of_eq (Nat.zero_add _)) (fun v13 w13 h => ?_) (fun E13 w13 h => ?_) h
      · obtain ⟨x13, rfl, h⟩ := h
        refine wp_if_ne (n := 19) (t := 23) dX3_drawn_16 rfl (by decide) (fun c16 => ?_) (fun c16 => ?_)
        · replace h := h.1 c16
          refine wp_iconst (n := 24) (v := 0) dX3_drawn_23 rfl (by decide) ?_
          refine wp_istore (n := 26) (i := 4) (ls' := [(4, vI 0), (0, vR (some h0)), (1, vI i1), (2, vI i2), (3, vI i3)]) dX3_drawn_24 rfl (Nat.le_of_ble_eq_true rfl) rfl ?_
          exact wp_sub [1, 2, 3, 4, 0] rfl h
        · replace h := h.2 c16
          refine wp_ldc2 (n := 22) dX3_drawn_19 rfl q1248 ?_
          exact wp_lreturn dX3_drawn_22 rfl h
      · exact h.elim
  · exact h.elim
set_option maxHeartbeats 1000000 in
theorem sg_X3_drawn_26 {h0 : Nat} {i1 : Int32} {i2 : Int32} {i3 : Int32} {i4 : Int32} {rc rs : Nat} {QR : Option aV → aW → Prop} {QX : String → aW → Prop} {w : aW} (h : (554 ≤ i4 → pf w h0 [3] 12 (vI i1) (fun w56 => wp (KX3_drawn) rc rs QR QX 62 [(0, vR (some h0)), (1, vI i1), (2, vI i2), (3, vI i3), (4, vI 0)] [] w56)) ∧ (¬ 554 ≤ i4 → ∃ x35 : Nat, gf w h0 [3] 3 (vR (some x35)) ∧ ∃ x41 : Nat, gf w h0 [3] 1 (vR (some x41)) ∧ ∃ x46 : Int32, gI w x41 i4 x46 ∧ pI w x35 i4 x46 (fun w47 => wp (KX3_drawn) rc rs QR QX 26 [(0, vR (some h0)), (1, vI i1), (2, vI i2), (3, vI i3), (4, vI (i4 + 1))] [] w47))) : wp (KX3_drawn) rc rs QR QX 26 [(0, vR (some h0)), (1, vI i1), (2, vI i2), (3, vI i3), (4, vI i4)] [] w := by
  refine wp_iload (n := 28) (i := 4) (q := 4) dX3_drawn_26 rfl rfl ?_
  refine wp_sipush (n := 31) (v := 554) dX3_drawn_28 rfl (by decide) ?_
  refine wp_icmp_ge (n := 34) (t := 54) dX3_drawn_31 rfl (by decide) (fun c31 => ?_) (fun c31 => ?_)
  · replace h := h.1 c31
    refine wp_aload_n (n := 55) (i := 0) (q := 0) dX3_drawn_54 rfl rfl rfl ?_
    refine wp_iload_n (n := 56) (i := 1) (q := 1) dX3_drawn_55 rfl rfl rfl ?_
    refine wp_pf (n := 59) dX3_drawn_56 rfl (pt_X3_173 _) rfl rfl (pf_mono h (fun w56 h => ?_))
    refine wp_iconst (n := 60) (v := 0) dX3_drawn_59 rfl (by decide) ?_
    refine wp_istore (n := 62) (i := 4) (ls' := [(4, vI 0), (0, vR (some h0)), (1, vI i1), (2, vI i2), (3, vI i3)]) dX3_drawn_60 rfl (Nat.le_of_ble_eq_true rfl) rfl ?_
    exact wp_sub [1, 2, 3, 4, 0] rfl h
  · replace h := h.2 c31
    refine wp_aload_n (n := 35) (i := 0) (q := 0) dX3_drawn_34 rfl rfl rfl ?_
    obtain ⟨x35, g35, h⟩ := h
    refine wp_gf (n := 38) dX3_drawn_35 rfl fl_X3_16 g35 ?_
    refine wp_iload (n := 40) (i := 4) (q := 4) dX3_drawn_38 rfl rfl ?_
    refine wp_aload_n (n := 41) (i := 0) (q := 0) dX3_drawn_40 rfl rfl rfl ?_
    obtain ⟨x41, g41, h⟩ := h
    refine wp_gf (n := 44) dX3_drawn_41 rfl fl_X3_7 g41 ?_
    refine wp_iload (n := 46) (i := 4) (q := 4) dX3_drawn_44 rfl rfl ?_
    obtain ⟨x46, g46, h⟩ := h
    refine wp_gI (n := 47) dX3_drawn_46 rfl g46 ?_
    refine wp_pI (n := 48) dX3_drawn_47 rfl (pI_mono h (fun w47 h => ?_))
    refine wp_iinc (n := 51) (i := 4) (q := 4) (v := i4 + 1) (ls' := [(4, vI (i4 + 1)), (0, vR (some h0)), (1, vI i1), (2, vI i2), (3, vI i3)]) dX3_drawn_48 rfl rfl rfl (Nat.le_of_ble_eq_true rfl) rfl ?_
    refine wp_goto (t := 26) dX3_drawn_51 (by decide) ?_
    exact wp_sub [1, 2, 3, 4, 0] rfl h
set_option maxHeartbeats 1000000 in
theorem sg_X3_drawn_62 {h0 : Nat} {i1 : Int32} {i2 : Int32} {i3 : Int32} {i4 : Int32} {rc rs : Nat} {QR : Option aV → aW → Prop} {QX : String → aW → Prop} {w : aW} (h : (i2 ≤ i4 → wp (KX3_drawn) rc rs QR QX 108 [(0, vR (some h0)), (1, vI i1), (2, vI i2), (3, vI i3), (4, vL 0), (6, vI 0)] [] w) ∧ (¬ i2 ≤ i4 → isO w h0 3 ∧ ct (KX3_lots) 0 0 [vR (some h0)] w (fun v69 w69 => ∃ x69 : Int32, v69 = some (vI x69) ∧ isO w69 h0 3 ∧ ct (KX3_lots) 0 0 [vR (some h0)] w69 (fun v75 w75 => ∃ x75 : Int32, v75 = some (vI x75) ∧ isO w75 h0 3 ∧ ct (KX3_lots) 0 0 [vR (some h0)] w75 (fun v81 w81 => ∃ x81 : Int32, v81 = some (vI x81) ∧ isO w81 h0 3 ∧ ct (KX3_draws) 0 0 [vR (some h0), vI x69, vI x75, vI x81] w81 (fun v93 w93 => v93 = none ∧ wp (KX3_drawn) rc rs QR QX 62 [(0, vR (some h0)), (1, vI i1), (2, vI i2), (3, vI i3), (4, vI (i4 + 1))] [] w93) (fun E93 w93 => False)) (fun E81 w81 => False)) (fun E75 w75 => False)) (fun E69 w69 => False))) : wp (KX3_drawn) rc rs QR QX 62 [(0, vR (some h0)), (1, vI i1), (2, vI i2), (3, vI i3), (4, vI i4)] [] w := by
  refine wp_iload (n := 64) (i := 4) (q := 4) dX3_drawn_62 rfl rfl ?_
  refine wp_iload_n (n := 65) (i := 2) (q := 2) dX3_drawn_64 rfl rfl rfl ?_
  refine wp_icmp_ge (n := 68) (t := 102) dX3_drawn_65 rfl (by decide) (fun c65 => ?_) (fun c65 => ?_)
  · replace h := h.1 c65
    refine wp_lconst (n := 103) (v := 0) dX3_drawn_102 rfl (by decide) ?_
    refine wp_lstore (n := 105) (i := 4) (ls' := [(4, vL 0), (0, vR (some h0)), (1, vI i1), (2, vI i2), (3, vI i3)]) dX3_drawn_103 rfl (Nat.le_of_ble_eq_true rfl) rfl ?_
    refine wp_iconst (n := 106) (v := 0) dX3_drawn_105 rfl (by decide) ?_
    refine wp_istore (n := 108) (i := 6) (ls' := [(6, vI 0), (4, vL 0), (0, vR (some h0)), (1, vI i1), (2, vI i2), (3, vI i3)]) dX3_drawn_106 rfl (Nat.le_of_ble_eq_true rfl) rfl ?_
    exact wp_sub [2, 3, 4, 5, 1, 0] rfl h
  · replace h := h.2 c65
    refine wp_aload_n (n := 69) (i := 0) (q := 0) dX3_drawn_68 rfl rfl rfl ?_
    obtain ⟨⟨fs69, o69⟩, h⟩ := h
    refine wp_call (n := 72) (K' := KX3_lots) (rc' := rc) (rs' := rs) (aRun_V (K' := KX3_lots) (As := []) (rest := []) (b := h0) (c0 := .inr (3, fs69)) dX3_drawn_69 (aCal_of kf_X3_lots (Nat.le_of_ble_eq_true rfl)) q1342 q1344 qs84 ar_X3_lots o69 (by decide : 3 < 9) rfl (Nat.le_of_ble_eq_true rfl)) rfl (Nat.le_of_eq (Nat.zero_add _)) (Nat.le_of_eq (Nat.zero_add _)) (fun v69 w69 h => ?_) (fun E69 w69 h => ?_) h
    · obtain ⟨x69, rfl, h⟩ := h
      refine wp_istore (n := 74) (i := 5) (ls' := [(5, vI x69), (0, vR (some h0)), (1, vI i1), (2, vI i2), (3, vI i3), (4, vI i4)]) dX3_drawn_72 rfl (Nat.le_of_ble_eq_true rfl) rfl ?_
      refine wp_aload_n (n := 75) (i := 0) (q := 1) dX3_drawn_74 rfl rfl rfl ?_
      obtain ⟨⟨fs75, o75⟩, h⟩ := h
      refine wp_call (n := 78) (K' := KX3_lots) (rc' := rc) (rs' := rs) (aRun_V (K' := KX3_lots) (As := []) (rest := []) (b := h0) (c0 := .inr (3, fs75)) dX3_drawn_75 (aCal_of kf_X3_lots (Nat.le_of_ble_eq_true rfl)) q1342 q1344 qs84 ar_X3_lots o75 (by decide : 3 < 9) rfl (Nat.le_of_ble_eq_true rfl)) rfl (Nat.le_of_eq (Nat.zero_add _)) (Nat.le_of_eq (Nat.zero_add _)) (fun v75 w75 h => ?_) (fun E75 w75 h => ?_) h
      · obtain ⟨x75, rfl, h⟩ := h
        refine wp_istore (n := 80) (i := 6) (ls' := [(6, vI x75), (5, vI x69), (0, vR (some h0)), (1, vI i1), (2, vI i2), (3, vI i3), (4, vI i4)]) dX3_drawn_78 rfl (Nat.le_of_ble_eq_true rfl) rfl ?_
        refine wp_aload_n (n := 81) (i := 0) (q := 2) dX3_drawn_80 rfl rfl rfl ?_
        obtain ⟨⟨fs81, o81⟩, h⟩ := h
        refine wp_call (n := 84) (K' := KX3_lots) (rc' := rc) (rs' := rs) (aRun_V (K' := KX3_lots) (As := []) (rest := []) (b := h0) (c0 := .inr (3, fs81)) dX3_drawn_81 (aCal_of kf_X3_lots (Nat.le_of_ble_eq_true rfl)) q1342 q1344 qs84 ar_X3_lots o81 (by decide : 3 < 9) rfl (Nat.le_of_ble_eq_true rfl)) rfl (Nat.le_of_eq (Nat.zero_add _)) (Nat.le_of_eq (Nat.zero_add _)) (fun v81 w81 h => ?_) (fun E81 w81 h => ?_) h
        · obtain ⟨x81, rfl, h⟩ := h
          refine wp_istore (n := 86) (i := 7) (ls' := [(7, vI x81), (6, vI x75), (5, vI x69), (0, vR (some h0)), (1, vI i1), (2, vI i2), (3, vI i3), (4, vI i4)]) dX3_drawn_84 rfl (Nat.le_of_ble_eq_true rfl) rfl ?_
          refine wp_aload_n (n := 87) (i := 0) (q := 3) dX3_drawn_86 rfl rfl rfl ?_
          refine wp_iload (n := 89) (i := 5) (q := 2) dX3_drawn_87 rfl rfl ?_
          refine wp_iload (n := 91) (i := 6) (q := 1) dX3_drawn_89 rfl rfl ?_
          refine wp_iload (n := 93) (i := 7) (q := 0) dX3_drawn_91 rfl rfl ?_
          obtain ⟨⟨fs93, o93⟩, h⟩ := h
          refine wp_call (n := 96) (K' := KX3_draws) (rc' := rc) (rs' := rs) (aRun_V (K' := KX3_draws) (As := [vI x69, vI x75, vI x81]) (rest := []) (b := h0) (c0 := .inr (3, fs93)) dX3_drawn_93 (aCal_of kf_X3_draws (Nat.le_of_ble_eq_true rfl)) q1347 q1349 qs85 ar_X3_draws o93 (by decide : 3 < 9) rfl (Nat.le_of_ble_eq_true rfl)) rfl (Nat.le_of_eq (Nat.zero_add _)) (Nat.le_of_eq (Nat.zero_add _)) (fun v93 w93 h => ?_) (fun E93 w93 h => ?_) h
          · obtain ⟨rfl, h⟩ := h
            refine wp_iinc (n := 99) (i := 4) (q := 7) (v := i4 + 1) (ls' := [(4, vI (i4 + 1)), (7, vI x81), (6, vI x75), (5, vI x69), (0, vR (some h0)), (1, vI i1), (2, vI i2), (3, vI i3)]) dX3_drawn_96 rfl rfl rfl (Nat.le_of_ble_eq_true rfl) rfl ?_
            refine wp_goto (t := 62) dX3_drawn_99 (by decide) ?_
            exact wp_sub [4, 5, 6, 7, 0] rfl h
          · exact h.elim
        · exact h.elim
      · exact h.elim
    · exact h.elim
set_option maxHeartbeats 1000000 in
theorem sg_X3_drawn_108 {h0 : Nat} {i1 : Int32} {i2 : Int32} {i3 : Int32} {l4 : Int64} {i6 : Int32} {rc rs : Nat} {QR : Option aV → aW → Prop} {QX : String → aW → Prop} {w : aW} (h : (96 ≤ i6 → (¬ i3 = 0 → (¬ i3 = 1 → (¬ i3 = 2 → wp (KX3_drawn) rc rs QR QX 192 [(0, vR (some h0)), (1, vI i1), (2, vI i2), (3, vI i3), (4, vL l4), (6, vL l4), (8, vI 0)] [] w) ∧ (i3 = 2 → ∃ x169 : Nat, gf w h0 [3] 1 (vR (some x169)) ∧ ∃ x173 : Int32, gI w x169 1 x173 ∧ ∃ x175 : Nat, gf w h0 [3] 3 (vR (some x175)) ∧ ∃ x179 : Int32, gI w x175 1 x179 ∧ wp (KX3_drawn) rc rs QR QX 192 [(0, vR (some h0)), (1, vI i1), (2, vI i2), (3, vI i3), (4, vL l4), (6, vL (Int32.toInt64 (x173 - x179))), (8, vI 0)] [] w)) ∧ (i3 = 1 → isO w h0 3 ∧ ct (KX3_blocks) 0 0 [vR (some h0)] w (fun v156 w156 => ∃ x156 : Int32, v156 = some (vI x156) ∧ wp (KX3_drawn) rc rs QR QX 192 [(0, vR (some h0)), (1, vI i1), (2, vI i2), (3, vI i3), (4, vL l4), (6, vL (Int32.toInt64 x156)), (8, vI 0)] [] w156) (fun E156 w156 => False))) ∧ (i3 = 0 → isO w h0 3 ∧ ct (KX3_things) 0 0 [vR (some h0)] w (fun v143 w143 => ∃ x143 : Int32, v143 = some (vI x143) ∧ wp (KX3_drawn) rc rs QR QX 192 [(0, vR (some h0)), (1, vI i1), (2, vI i2), (3, vI i3), (4, vL l4), (6, vL (Int32.toInt64 x143)), (8, vI 0)] [] w143) (fun E143 w143 => False))) ∧ (¬ 96 ≤ i6 → ∃ x118 : Nat, gf w h0 [3] 1 (vR (some x118)) ∧ ∃ x127 : Int32, gI w x118 (362 + i6) x127 ∧ wp (KX3_drawn) rc rs QR QX 108 [(0, vR (some h0)), (1, vI i1), (2, vI i2), (3, vI i3), (4, vL (l4 + (Int32.toInt64 x127))), (6, vI (i6 + 1))] [] w)) : wp (KX3_drawn) rc rs QR QX 108 [(0, vR (some h0)), (1, vI i1), (2, vI i2), (3, vI i3), (4, vL l4), (6, vI i6)] [] w := by
  refine wp_iload (n := 110) (i := 6) (q := 5) dX3_drawn_108 rfl rfl ?_
  refine wp_bipush (n := 112) (v := 96) dX3_drawn_110 rfl (by decide) ?_
  refine wp_icmp_ge (n := 115) (t := 138) dX3_drawn_112 rfl (by decide) (fun c112 => ?_) (fun c112 => ?_)
  · replace h := h.1 c112
    refine wp_iload_n (n := 139) (i := 3) (q := 3) dX3_drawn_138 rfl rfl rfl ?_
    refine wp_if_ne (n := 142) (t := 150) dX3_drawn_139 rfl (by decide) (fun c139 => ?_) (fun c139 => ?_)
    · replace h := h.1 c139
      refine wp_iload_n (n := 151) (i := 3) (q := 3) dX3_drawn_150 rfl rfl rfl ?_
      refine wp_iconst (n := 152) (v := 1) dX3_drawn_151 rfl (by decide) ?_
      refine wp_icmp_ne (n := 155) (t := 163) dX3_drawn_152 rfl (by decide) (fun c152 => ?_) (fun c152 => ?_)
      · replace h := h.1 c152
        refine wp_iload_n (n := 164) (i := 3) (q := 3) dX3_drawn_163 rfl rfl rfl ?_
        refine wp_iconst (n := 165) (v := 2) dX3_drawn_164 rfl (by decide) ?_
        refine wp_icmp_ne (n := 168) (t := 185) dX3_drawn_165 rfl (by decide) (fun c165 => ?_) (fun c165 => ?_)
        · replace h := h.1 c165
          refine wp_lload (n := 187) (i := 4) (q := 4) dX3_drawn_185 rfl rfl ?_
          refine wp_lstore (n := 189) (i := 6) (ls' := [(6, vL l4), (0, vR (some h0)), (1, vI i1), (2, vI i2), (3, vI i3), (4, vL l4)]) dX3_drawn_187 rfl (Nat.le_of_ble_eq_true rfl) rfl ?_
          refine wp_iconst (n := 190) (v := 0) dX3_drawn_189 rfl (by decide) ?_
          refine wp_istore (n := 192) (i := 8) (ls' := [(8, vI 0), (6, vL l4), (0, vR (some h0)), (1, vI i1), (2, vI i2), (3, vI i3), (4, vL l4)]) dX3_drawn_190 rfl (Nat.le_of_ble_eq_true rfl) rfl ?_
          exact wp_sub [2, 3, 4, 5, 6, 1, 0] rfl h
        · replace h := h.2 c165
          refine wp_aload_n (n := 169) (i := 0) (q := 0) dX3_drawn_168 rfl rfl rfl ?_
          obtain ⟨x169, g169, h⟩ := h
          refine wp_gf (n := 172) dX3_drawn_169 rfl fl_X3_7 g169 ?_
          refine wp_iconst (n := 173) (v := 1) dX3_drawn_172 rfl (by decide) ?_
          obtain ⟨x173, g173, h⟩ := h
          refine wp_gI (n := 174) dX3_drawn_173 rfl g173 ?_
          refine wp_aload_n (n := 175) (i := 0) (q := 0) dX3_drawn_174 rfl rfl rfl ?_
          obtain ⟨x175, g175, h⟩ := h
          refine wp_gf (n := 178) dX3_drawn_175 rfl fl_X3_16 g175 ?_
          refine wp_iconst (n := 179) (v := 1) dX3_drawn_178 rfl (by decide) ?_
          obtain ⟨x179, g179, h⟩ := h
          refine wp_gI (n := 180) dX3_drawn_179 rfl g179 ?_
          refine wp_isub (n := 181) dX3_drawn_180 rfl ?_
          refine wp_i2l (n := 182) dX3_drawn_181 rfl ?_
          refine wp_goto (t := 187) dX3_drawn_182 (by decide) ?_
          refine wp_lstore (n := 189) (i := 6) (ls' := [(6, vL (Int32.toInt64 (x173 - x179))), (0, vR (some h0)), (1, vI i1), (2, vI i2), (3, vI i3), (4, vL l4)]) dX3_drawn_187 rfl (Nat.le_of_ble_eq_true rfl) rfl ?_
          refine wp_iconst (n := 190) (v := 0) dX3_drawn_189 rfl (by decide) ?_
          refine wp_istore (n := 192) (i := 8) (ls' := [(8, vI 0), (6, vL (Int32.toInt64 (x173 - x179))), (0, vR (some h0)), (1, vI i1), (2, vI i2), (3, vI i3), (4, vL l4)]) dX3_drawn_190 rfl (Nat.le_of_ble_eq_true rfl) rfl ?_
          exact wp_sub [2, 3, 4, 5, 6, 1, 0] rfl h
      · replace h := h.2 c152
        refine wp_aload_n (n := 156) (i := 0) (q := 0) dX3_drawn_155 rfl rfl rfl ?_
        obtain ⟨⟨fs156, o156⟩, h⟩ := h
        refine wp_call (n := 159) (K' := KX3_blocks) (rc' := rc) (rs' := rs) (aRun_V (K' := KX3_blocks) (As := []) (rest := []) (b := h0) (c0 := .inr (3, fs156)) dX3_drawn_156 (aCal_of kf_X3_blocks (Nat.le_of_ble_eq_true rfl)) q1363 q1365 qs87 ar_X3_blocks o156 (by decide : 3 < 9) rfl (Nat.le_of_ble_eq_true rfl)) rfl (Nat.le_of_eq (Nat.zero_add _)) (Nat.le_of_eq (Nat.zero_add _)) (fun v156 w156 h => ?_) (fun E156 w156 h => ?_) h
        · obtain ⟨x156, rfl, h⟩ := h
          refine wp_i2l (n := 160) dX3_drawn_159 rfl ?_
          refine wp_goto (t := 187) dX3_drawn_160 (by decide) ?_
          refine wp_lstore (n := 189) (i := 6) (ls' := [(6, vL (Int32.toInt64 x156)), (0, vR (some h0)), (1, vI i1), (2, vI i2), (3, vI i3), (4, vL l4)]) dX3_drawn_187 rfl (Nat.le_of_ble_eq_true rfl) rfl ?_
          refine wp_iconst (n := 190) (v := 0) dX3_drawn_189 rfl (by decide) ?_
          refine wp_istore (n := 192) (i := 8) (ls' := [(8, vI 0), (6, vL (Int32.toInt64 x156)), (0, vR (some h0)), (1, vI i1), (2, vI i2), (3, vI i3), (4, vL l4)]) dX3_drawn_190 rfl (Nat.le_of_ble_eq_true rfl) rfl ?_
          exact wp_sub [2, 3, 4, 5, 6, 1, 0] rfl h
        · exact h.elim
    · replace h := h.2 c139
      refine wp_aload_n (n := 143) (i := 0) (q := 0) dX3_drawn_142 rfl rfl rfl ?_
      obtain ⟨⟨fs143, o143⟩, h⟩ := h
      refine wp_call (n := 146) (K' := KX3_things) (rc' := rc) (rs' := rs) (aRun_V (K' := KX3_things) (As := []) (rest := []) (b := h0) (c0 := .inr (3, fs143)) dX3_drawn_143 (aCal_of kf_X3_things (Nat.le_of_ble_eq_true rfl)) q1359 q1361 qs86 ar_X3_things o143 (by decide : 3 < 9) rfl (Nat.le_of_ble_eq_true rfl)) rfl (Nat.le_of_eq (Nat.zero_add _)) (Nat.le_of_eq (Nat.zero_add _)) (fun v143 w143 h => ?_) (fun E143 w143 h => ?_) h
      · obtain ⟨x143, rfl, h⟩ := h
        refine wp_i2l (n := 147) dX3_drawn_146 rfl ?_
        refine wp_goto (t := 187) dX3_drawn_147 (by decide) ?_
        refine wp_lstore (n := 189) (i := 6) (ls' := [(6, vL (Int32.toInt64 x143)), (0, vR (some h0)), (1, vI i1), (2, vI i2), (3, vI i3), (4, vL l4)]) dX3_drawn_187 rfl (Nat.le_of_ble_eq_true rfl) rfl ?_
        refine wp_iconst (n := 190) (v := 0) dX3_drawn_189 rfl (by decide) ?_
        refine wp_istore (n := 192) (i := 8) (ls' := [(8, vI 0), (6, vL (Int32.toInt64 x143)), (0, vR (some h0)), (1, vI i1), (2, vI i2), (3, vI i3), (4, vL l4)]) dX3_drawn_190 rfl (Nat.le_of_ble_eq_true rfl) rfl ?_
        exact wp_sub [2, 3, 4, 5, 6, 1, 0] rfl h
      · exact h.elim
  · replace h := h.2 c112
    refine wp_lload (n := 117) (i := 4) (q := 4) dX3_drawn_115 rfl rfl ?_
    refine wp_aload_n (n := 118) (i := 0) (q := 0) dX3_drawn_117 rfl rfl rfl ?_
    obtain ⟨x118, g118, h⟩ := h
    refine wp_gf (n := 121) dX3_drawn_118 rfl fl_X3_7 g118 ?_
    refine wp_sipush (n := 124) (v := 362) dX3_drawn_121 rfl (by decide) ?_
    refine wp_iload (n := 126) (i := 6) (q := 5) dX3_drawn_124 rfl rfl ?_
    refine wp_iadd (n := 127) dX3_drawn_126 rfl ?_
    obtain ⟨x127, g127, h⟩ := h
    refine wp_gI (n := 128) dX3_drawn_127 rfl g127 ?_
    refine wp_i2l (n := 129) dX3_drawn_128 rfl ?_
    refine wp_ladd (n := 130) dX3_drawn_129 rfl ?_
    refine wp_lstore (n := 132) (i := 4) (ls' := [(4, vL (l4 + (Int32.toInt64 x127))), (0, vR (some h0)), (1, vI i1), (2, vI i2), (3, vI i3), (6, vI i6)]) dX3_drawn_130 rfl (Nat.le_of_ble_eq_true rfl) rfl ?_
    refine wp_iinc (n := 135) (i := 6) (q := 5) (v := i6 + 1) (ls' := [(6, vI (i6 + 1)), (4, vL (l4 + (Int32.toInt64 x127))), (0, vR (some h0)), (1, vI i1), (2, vI i2), (3, vI i3)]) dX3_drawn_132 rfl rfl rfl (Nat.le_of_ble_eq_true rfl) rfl ?_
    refine wp_goto (t := 108) dX3_drawn_135 (by decide) ?_
    exact wp_sub [2, 3, 4, 5, 1, 0] rfl h
set_option maxHeartbeats 1000000 in
theorem sg_X3_drawn_192 {h0 : Nat} {i1 : Int32} {i2 : Int32} {i3 : Int32} {l4 : Int64} {l6 : Int64} {i8 : Int32} {rc rs : Nat} {QR : Option aV → aW → Prop} {QX : String → aW → Prop} {w : aW} (h : (554 ≤ i8 → QR (some (vL l6)) w) ∧ (¬ 554 ≤ i8 → ∃ x201 : Nat, gf w h0 [3] 1 (vR (some x201)) ∧ ∃ x207 : Nat, gf w h0 [3] 3 (vR (some x207)) ∧ ∃ x212 : Int32, gI w x207 i8 x212 ∧ pI w x201 i8 x212 (fun w213 => wp (KX3_drawn) rc rs QR QX 192 [(0, vR (some h0)), (1, vI i1), (2, vI i2), (3, vI i3), (4, vL l4), (6, vL l6), (8, vI (i8 + 1))] [] w213))) : wp (KX3_drawn) rc rs QR QX 192 [(0, vR (some h0)), (1, vI i1), (2, vI i2), (3, vI i3), (4, vL l4), (6, vL l6), (8, vI i8)] [] w := by
  refine wp_iload (n := 194) (i := 8) (q := 6) dX3_drawn_192 rfl rfl ?_
  refine wp_sipush (n := 197) (v := 554) dX3_drawn_194 rfl (by decide) ?_
  refine wp_icmp_ge (n := 200) (t := 220) dX3_drawn_197 rfl (by decide) (fun c197 => ?_) (fun c197 => ?_)
  · replace h := h.1 c197
    refine wp_lload (n := 222) (i := 6) (q := 5) dX3_drawn_220 rfl rfl ?_
    exact wp_lreturn dX3_drawn_222 rfl h
  · replace h := h.2 c197
    refine wp_aload_n (n := 201) (i := 0) (q := 0) dX3_drawn_200 rfl rfl rfl ?_
    obtain ⟨x201, g201, h⟩ := h
    refine wp_gf (n := 204) dX3_drawn_201 rfl fl_X3_7 g201 ?_
    refine wp_iload (n := 206) (i := 8) (q := 6) dX3_drawn_204 rfl rfl ?_
    refine wp_aload_n (n := 207) (i := 0) (q := 0) dX3_drawn_206 rfl rfl rfl ?_
    obtain ⟨x207, g207, h⟩ := h
    refine wp_gf (n := 210) dX3_drawn_207 rfl fl_X3_16 g207 ?_
    refine wp_iload (n := 212) (i := 8) (q := 6) dX3_drawn_210 rfl rfl ?_
    obtain ⟨x212, g212, h⟩ := h
    refine wp_gI (n := 213) dX3_drawn_212 rfl g212 ?_
    refine wp_pI (n := 214) dX3_drawn_213 rfl (pI_mono h (fun w213 h => ?_))
    refine wp_iinc (n := 217) (i := 8) (q := 6) (v := i8 + 1) (ls' := [(8, vI (i8 + 1)), (0, vR (some h0)), (1, vI i1), (2, vI i2), (3, vI i3), (4, vL l4), (6, vL l6)]) dX3_drawn_214 rfl rfl rfl (Nat.le_of_ble_eq_true rfl) rfl ?_
    refine wp_goto (t := 192) dX3_drawn_217 (by decide) ?_
    exact wp_sub [1, 2, 3, 4, 5, 6, 0] rfl h
set_option maxHeartbeats 1000000 in
theorem sg_X3_looksForOwned_0 {h0 : Nat} {i1 : Int32} {rc rs : Nat} {QR : Option aV → aW → Prop} {QX : String → aW → Prop} {w : aW} (h : pf w h0 [3] 7 (vI 0) (fun w2 => wp (KX3_looksForOwned) rc rs QR QX 7 [(0, vR (some h0)), (1, vI i1), (2, vI 0)] [] w2)) : wp (KX3_looksForOwned) rc rs QR QX 0 [(0, vR (some h0)), (1, vI i1)] [] w := by
  refine wp_aload_n (n := 1) (i := 0) (q := 0) dX3_looksForOwned_0 rfl rfl rfl ?_
  refine wp_iconst (n := 2) (v := 0) dX3_looksForOwned_1 rfl (by decide) ?_
  refine wp_pf (n := 5) dX3_looksForOwned_2 rfl (pt_X3_139 _) rfl rfl (pf_mono h (fun w2 h => ?_))
  refine wp_iconst (n := 6) (v := 0) dX3_looksForOwned_5 rfl (by decide) ?_
  refine wp_istore_n (n := 7) (i := 2) (ls' := [(2, vI 0), (0, vR (some h0)), (1, vI i1)]) dX3_looksForOwned_6 rfl rfl (Nat.le_of_ble_eq_true rfl) rfl ?_
  exact wp_sub [1, 2, 0] rfl h
set_option maxHeartbeats 1000000 in
theorem sg_X3_looksForOwned_7 {h0 : Nat} {i1 : Int32} {i2 : Int32} {rc rs : Nat} {QR : Option aV → aW → Prop} {QX : String → aW → Prop} {w : aW} (h : (20 ≤ i2 → QR none w) ∧ (¬ 20 ≤ i2 → isO w h0 3 ∧ ct (KX3_isSnapshot) 0 0 [vR (some h0), vI i2] w (fun v15 w15 => ∃ x15 : Int32, v15 = some (vI x15) ∧ (x15 = 0 → wp (KX3_looksForOwned) rc rs QR QX 7 [(0, vR (some h0)), (1, vI i1), (2, vI (i2 + 1))] [] w15) ∧ (¬ x15 = 0 → ∃ x22 : Nat, gf w15 h0 [3] 1 (vR (some x22)) ∧ ∃ x29 : Int32, gI w15 x22 (62 + i2) x29 ∧ (¬ x29 = i1 → wp (KX3_looksForOwned) rc rs QR QX 7 [(0, vR (some h0)), (1, vI i1), (2, vI (i2 + 1))] [] w15) ∧ (x29 = i1 → ∃ x35 : Int32, gf w15 h0 [3] 7 (vI x35) ∧ wp (KX3_looksForOwned) rc rs QR QX 39 [(0, vR (some h0)), (1, vI i1), (2, vI i2), (3, vI x35)] [] w15))) (fun E15 w15 => False))) : wp (KX3_looksForOwned) rc rs QR QX 7 [(0, vR (some h0)), (1, vI i1), (2, vI i2)] [] w := by
  refine wp_iload_n (n := 8) (i := 2) (q := 2) dX3_looksForOwned_7 rfl rfl rfl ?_
  refine wp_bipush (n := 10) (v := 20) dX3_looksForOwned_8 rfl (by decide) ?_
  refine wp_icmp_ge (n := 13) (t := 114) dX3_looksForOwned_10 rfl (by decide) (fun c10 => ?_) (fun c10 => ?_)
  · replace h := h.1 c10
    exact wp_return dX3_looksForOwned_114 rfl h
  · replace h := h.2 c10
    refine wp_aload_n (n := 14) (i := 0) (q := 0) dX3_looksForOwned_13 rfl rfl rfl ?_
    refine wp_iload_n (n := 15) (i := 2) (q := 2) dX3_looksForOwned_14 rfl rfl rfl ?_
    obtain ⟨⟨fs15, o15⟩, h⟩ := h
    refine wp_call (n := 18) (K' := KX3_isSnapshot) (rc' := rc) (rs' := rs) (aRun_V (K' := KX3_isSnapshot) (As := [vI i2]) (rest := []) (b := h0) (c0 := .inr (3, fs15)) dX3_looksForOwned_15 (aCal_of kf_X3_isSnapshot (Nat.le_of_ble_eq_true rfl)) q1139 q1141 qs64 ar_X3_isSnapshot o15 (by decide : 3 < 9) rfl (Nat.le_of_ble_eq_true rfl)) rfl (Nat.le_of_eq (Nat.zero_add _)) (Nat.le_of_eq (Nat.zero_add _)) (fun v15 w15 h => ?_) (fun E15 w15 h => ?_) h
    · obtain ⟨x15, rfl, h⟩ := h
      refine wp_if_eq (n := 21) (t := 108) dX3_looksForOwned_18 rfl (by decide) (fun c18 => ?_) (fun c18 => ?_)
      · replace h := h.1 c18
        refine wp_iinc (n := 111) (i := 2) (q := 2) (v := i2 + 1) (ls' := [(2, vI (i2 + 1)), (0, vR (some h0)), (1, vI i1)]) dX3_looksForOwned_108 rfl rfl rfl (Nat.le_of_ble_eq_true rfl) rfl ?_
        refine wp_goto (t := 7) dX3_looksForOwned_111 (by decide) ?_
        exact wp_sub [1, 2, 0] rfl h
      · replace h := h.2 c18
        refine wp_aload_n (n := 22) (i := 0) (q := 0) dX3_looksForOwned_21 rfl rfl rfl ?_
        obtain ⟨x22, g22, h⟩ := h
        refine wp_gf (n := 25) dX3_looksForOwned_22 rfl fl_X3_7 g22 ?_
        refine wp_bipush (n := 27) (v := 62) dX3_looksForOwned_25 rfl (by decide) ?_
        refine wp_iload_n (n := 28) (i := 2) (q := 2) dX3_looksForOwned_27 rfl rfl rfl ?_
        refine wp_iadd (n := 29) dX3_looksForOwned_28 rfl ?_
        obtain ⟨x29, g29, h⟩ := h
        refine wp_gI (n := 30) dX3_looksForOwned_29 rfl g29 ?_
        refine wp_iload_n (n := 31) (i := 1) (q := 1) dX3_looksForOwned_30 rfl rfl rfl ?_
        refine wp_icmp_ne (n := 34) (t := 108) dX3_looksForOwned_31 rfl (by decide) (fun c31 => ?_) (fun c31 => ?_)
        · replace h := h.1 c31
          refine wp_iinc (n := 111) (i := 2) (q := 2) (v := i2 + 1) (ls' := [(2, vI (i2 + 1)), (0, vR (some h0)), (1, vI i1)]) dX3_looksForOwned_108 rfl rfl rfl (Nat.le_of_ble_eq_true rfl) rfl ?_
          refine wp_goto (t := 7) dX3_looksForOwned_111 (by decide) ?_
          exact wp_sub [1, 2, 0] rfl h
        · replace h := h.2 c31
          refine wp_aload_n (n := 35) (i := 0) (q := 0) dX3_looksForOwned_34 rfl rfl rfl ?_
          obtain ⟨x35, g35, h⟩ := h
          refine wp_gf (n := 38) dX3_looksForOwned_35 rfl fl_X3_139 g35 ?_
          refine wp_istore_n (n := 39) (i := 3) (ls' := [(3, vI x35), (0, vR (some h0)), (1, vI i1), (2, vI i2)]) dX3_looksForOwned_38 rfl rfl (Nat.le_of_ble_eq_true rfl) rfl ?_
          exact wp_sub [1, 2, 3, 0] rfl h
    · exact h.elim
set_option maxHeartbeats 1000000 in
theorem sg_X3_looksForOwned_39 {h0 : Nat} {i1 : Int32} {i2 : Int32} {i3 : Int32} {rc rs : Nat} {QR : Option aV → aW → Prop} {QX : String → aW → Prop} {w : aW} (h : (i3 ≤ 0 → ∃ x92 : Nat, gf w h0 [3] 6 (vR (some x92)) ∧ pI w x92 i3 i2 (fun w97 => ∃ x100 : Int32, gf w97 h0 [3] 7 (vI x100) ∧ pf w97 h0 [3] 7 (vI (x100 + 1)) (fun w105 => wp (KX3_looksForOwned) rc rs QR QX 7 [(0, vR (some h0)), (1, vI i1), (2, vI (i2 + 1))] [] w105))) ∧ (¬ i3 ≤ 0 → ∃ x44 : Nat, gf w h0 [3] 1 (vR (some x44)) ∧ ∃ x50 : Nat, gf w h0 [3] 6 (vR (some x50)) ∧ ∃ x56 : Int32, gI w x50 (i3 - 1) x56 ∧ ∃ x58 : Int32, gI w x44 (22 + x56) x58 ∧ ∃ x60 : Nat, gf w h0 [3] 1 (vR (some x60)) ∧ ∃ x67 : Int32, gI w x60 (22 + i2) x67 ∧ (x67 ≤ x58 → ∃ x92 : Nat, gf w h0 [3] 6 (vR (some x92)) ∧ pI w x92 i3 i2 (fun w97 => ∃ x100 : Int32, gf w97 h0 [3] 7 (vI x100) ∧ pf w97 h0 [3] 7 (vI (x100 + 1)) (fun w105 => wp (KX3_looksForOwned) rc rs QR QX 7 [(0, vR (some h0)), (1, vI i1), (2, vI (i2 + 1))] [] w105))) ∧ (¬ x67 ≤ x58 → ∃ x72 : Nat, gf w h0 [3] 6 (vR (some x72)) ∧ ∃ x77 : Nat, gf w h0 [3] 6 (vR (some x77)) ∧ ∃ x83 : Int32, gI w x77 (i3 - 1) x83 ∧ pI w x72 i3 x83 (fun w84 => wp (KX3_looksForOwned) rc rs QR QX 39 [(0, vR (some h0)), (1, vI i1), (2, vI i2), (3, vI (i3 + (-1)))] [] w84)))) : wp (KX3_looksForOwned) rc rs QR QX 39 [(0, vR (some h0)), (1, vI i1), (2, vI i2), (3, vI i3)] [] w := by
  refine wp_iload_n (n := 40) (i := 3) (q := 3) dX3_looksForOwned_39 rfl rfl rfl ?_
  refine wp_if_le (n := 43) (t := 91) dX3_looksForOwned_40 rfl (by decide) (fun c40 => ?_) (fun c40 => ?_)
  · replace h := h.1 c40
    refine wp_aload_n (n := 92) (i := 0) (q := 0) dX3_looksForOwned_91 rfl rfl rfl ?_
    obtain ⟨x92, g92, h⟩ := h
    refine wp_gf (n := 95) dX3_looksForOwned_92 rfl fl_X3_22 g92 ?_
    refine wp_iload_n (n := 96) (i := 3) (q := 3) dX3_looksForOwned_95 rfl rfl rfl ?_
    refine wp_iload_n (n := 97) (i := 2) (q := 2) dX3_looksForOwned_96 rfl rfl rfl ?_
    refine wp_pI (n := 98) dX3_looksForOwned_97 rfl (pI_mono h (fun w97 h => ?_))
    refine wp_aload_n (n := 99) (i := 0) (q := 0) dX3_looksForOwned_98 rfl rfl rfl ?_
    refine wp_dup (n := 100) dX3_looksForOwned_99 rfl rfl ?_
    obtain ⟨x100, g100, h⟩ := h
    refine wp_gf (n := 103) dX3_looksForOwned_100 rfl fl_X3_139 g100 ?_
    refine wp_iconst (n := 104) (v := 1) dX3_looksForOwned_103 rfl (by decide) ?_
    refine wp_iadd (n := 105) dX3_looksForOwned_104 rfl ?_
    refine wp_pf (n := 108) dX3_looksForOwned_105 rfl (pt_X3_139 _) rfl rfl (pf_mono h (fun w105 h => ?_))
    refine wp_iinc (n := 111) (i := 2) (q := 2) (v := i2 + 1) (ls' := [(2, vI (i2 + 1)), (0, vR (some h0)), (1, vI i1), (3, vI i3)]) dX3_looksForOwned_108 rfl rfl rfl (Nat.le_of_ble_eq_true rfl) rfl ?_
    refine wp_goto (t := 7) dX3_looksForOwned_111 (by decide) ?_
    exact wp_sub [1, 2, 0] rfl h
  · replace h := h.2 c40
    refine wp_aload_n (n := 44) (i := 0) (q := 0) dX3_looksForOwned_43 rfl rfl rfl ?_
    obtain ⟨x44, g44, h⟩ := h
    refine wp_gf (n := 47) dX3_looksForOwned_44 rfl fl_X3_7 g44 ?_
    refine wp_bipush (n := 49) (v := 22) dX3_looksForOwned_47 rfl (by decide) ?_
    refine wp_aload_n (n := 50) (i := 0) (q := 0) dX3_looksForOwned_49 rfl rfl rfl ?_
    obtain ⟨x50, g50, h⟩ := h
    refine wp_gf (n := 53) dX3_looksForOwned_50 rfl fl_X3_22 g50 ?_
    refine wp_iload_n (n := 54) (i := 3) (q := 3) dX3_looksForOwned_53 rfl rfl rfl ?_
    refine wp_iconst (n := 55) (v := 1) dX3_looksForOwned_54 rfl (by decide) ?_
    refine wp_isub (n := 56) dX3_looksForOwned_55 rfl ?_
    obtain ⟨x56, g56, h⟩ := h
    refine wp_gI (n := 57) dX3_looksForOwned_56 rfl g56 ?_
    refine wp_iadd (n := 58) dX3_looksForOwned_57 rfl ?_
    obtain ⟨x58, g58, h⟩ := h
    refine wp_gI (n := 59) dX3_looksForOwned_58 rfl g58 ?_
    refine wp_aload_n (n := 60) (i := 0) (q := 0) dX3_looksForOwned_59 rfl rfl rfl ?_
    obtain ⟨x60, g60, h⟩ := h
    refine wp_gf (n := 63) dX3_looksForOwned_60 rfl fl_X3_7 g60 ?_
    refine wp_bipush (n := 65) (v := 22) dX3_looksForOwned_63 rfl (by decide) ?_
    refine wp_iload_n (n := 66) (i := 2) (q := 2) dX3_looksForOwned_65 rfl rfl rfl ?_
    refine wp_iadd (n := 67) dX3_looksForOwned_66 rfl ?_
    obtain ⟨x67, g67, h⟩ := h
    refine wp_gI (n := 68) dX3_looksForOwned_67 rfl g67 ?_
    refine wp_icmp_ge (n := 71) (t := 91) dX3_looksForOwned_68 rfl (by decide) (fun c68 => ?_) (fun c68 => ?_)
    · replace h := h.1 c68
      refine wp_aload_n (n := 92) (i := 0) (q := 0) dX3_looksForOwned_91 rfl rfl rfl ?_
      obtain ⟨x92, g92, h⟩ := h
      refine wp_gf (n := 95) dX3_looksForOwned_92 rfl fl_X3_22 g92 ?_
      refine wp_iload_n (n := 96) (i := 3) (q := 3) dX3_looksForOwned_95 rfl rfl rfl ?_
      refine wp_iload_n (n := 97) (i := 2) (q := 2) dX3_looksForOwned_96 rfl rfl rfl ?_
      refine wp_pI (n := 98) dX3_looksForOwned_97 rfl (pI_mono h (fun w97 h => ?_))
      refine wp_aload_n (n := 99) (i := 0) (q := 0) dX3_looksForOwned_98 rfl rfl rfl ?_
      refine wp_dup (n := 100) dX3_looksForOwned_99 rfl rfl ?_
      obtain ⟨x100, g100, h⟩ := h
      refine wp_gf (n := 103) dX3_looksForOwned_100 rfl fl_X3_139 g100 ?_
      refine wp_iconst (n := 104) (v := 1) dX3_looksForOwned_103 rfl (by decide) ?_
      refine wp_iadd (n := 105) dX3_looksForOwned_104 rfl ?_
      refine wp_pf (n := 108) dX3_looksForOwned_105 rfl (pt_X3_139 _) rfl rfl (pf_mono h (fun w105 h => ?_))
      refine wp_iinc (n := 111) (i := 2) (q := 2) (v := i2 + 1) (ls' := [(2, vI (i2 + 1)), (0, vR (some h0)), (1, vI i1), (3, vI i3)]) dX3_looksForOwned_108 rfl rfl rfl (Nat.le_of_ble_eq_true rfl) rfl ?_
      refine wp_goto (t := 7) dX3_looksForOwned_111 (by decide) ?_
      exact wp_sub [1, 2, 0] rfl h
    · replace h := h.2 c68
      refine wp_aload_n (n := 72) (i := 0) (q := 0) dX3_looksForOwned_71 rfl rfl rfl ?_
      obtain ⟨x72, g72, h⟩ := h
      refine wp_gf (n := 75) dX3_looksForOwned_72 rfl fl_X3_22 g72 ?_
      refine wp_iload_n (n := 76) (i := 3) (q := 3) dX3_looksForOwned_75 rfl rfl rfl ?_
      refine wp_aload_n (n := 77) (i := 0) (q := 0) dX3_looksForOwned_76 rfl rfl rfl ?_
      obtain ⟨x77, g77, h⟩ := h
      refine wp_gf (n := 80) dX3_looksForOwned_77 rfl fl_X3_22 g77 ?_
      refine wp_iload_n (n := 81) (i := 3) (q := 3) dX3_looksForOwned_80 rfl rfl rfl ?_
      refine wp_iconst (n := 82) (v := 1) dX3_looksForOwned_81 rfl (by decide) ?_
      refine wp_isub (n := 83) dX3_looksForOwned_82 rfl ?_
      obtain ⟨x83, g83, h⟩ := h
      refine wp_gI (n := 84) dX3_looksForOwned_83 rfl g83 ?_
      refine wp_pI (n := 85) dX3_looksForOwned_84 rfl (pI_mono h (fun w84 h => ?_))
      refine wp_iinc (n := 88) (i := 3) (q := 3) (v := i3 + (-1)) (ls' := [(3, vI (i3 + (-1))), (0, vR (some h0)), (1, vI i1), (2, vI i2)]) dX3_looksForOwned_85 rfl rfl rfl (Nat.le_of_ble_eq_true rfl) rfl ?_
      refine wp_goto (t := 39) dX3_looksForOwned_88 (by decide) ?_
      exact wp_sub [1, 2, 3, 0] rfl h
set_option maxHeartbeats 1000000 in
theorem sg_X3_isLoose_0 {h0 : Nat} {i1 : Int32} {rc rs : Nat} {QR : Option aV → aW → Prop} {QX : String → aW → Prop} {w : aW} (h : ∃ x1 : Nat, gf w h0 [3] 1 (vR (some x1)) ∧ ∃ x8 : Int32, gI w x1 (102 + i1) x8 ∧ (¬ x8 = 0 → QR (some (vI 0)) w) ∧ (x8 = 0 → isO w h0 3 ∧ ct (KX3_nexts) 0 0 [vR (some h0), vI i1] w (fun v14 w14 => ∃ x14 : Int32, v14 = some (vI x14) ∧ (¬ x14 = 1 → QR (some (vI 0)) w14) ∧ (x14 = 1 → QR (some (vI 1)) w14)) (fun E14 w14 => False))) : wp (KX3_isLoose) rc rs QR QX 0 [(0, vR (some h0)), (1, vI i1)] [] w := by
  refine wp_aload_n (n := 1) (i := 0) (q := 0) dX3_isLoose_0 rfl rfl rfl ?_
  obtain ⟨x1, g1, h⟩ := h
  refine wp_gf (n := 4) dX3_isLoose_1 rfl fl_X3_7 g1 ?_
  refine wp_bipush (n := 6) (v := 102) dX3_isLoose_4 rfl (by decide) ?_
  refine wp_iload_n (n := 7) (i := 1) (q := 1) dX3_isLoose_6 rfl rfl rfl ?_
  refine wp_iadd (n := 8) dX3_isLoose_7 rfl ?_
  obtain ⟨x8, g8, h⟩ := h
  refine wp_gI (n := 9) dX3_isLoose_8 rfl g8 ?_
  refine wp_if_ne (n := 12) (t := 25) dX3_isLoose_9 rfl (by decide) (fun c9 => ?_) (fun c9 => ?_)
  · replace h := h.1 c9
    refine wp_iconst (n := 26) (v := 0) dX3_isLoose_25 rfl (by decide) ?_
    exact wp_zreturn dX3_isLoose_26 rfl (by decide) h
  · replace h := h.2 c9
    refine wp_aload_n (n := 13) (i := 0) (q := 0) dX3_isLoose_12 rfl rfl rfl ?_
    refine wp_iload_n (n := 14) (i := 1) (q := 1) dX3_isLoose_13 rfl rfl rfl ?_
    obtain ⟨⟨fs14, o14⟩, h⟩ := h
    refine wp_call (n := 17) (K' := KX3_nexts) (rc' := rc) (rs' := rs) (aRun_V (K' := KX3_nexts) (As := [vI i1]) (rest := []) (b := h0) (c0 := .inr (3, fs14)) dX3_isLoose_14 (aCal_of kf_X3_nexts (Nat.le_of_ble_eq_true rfl)) q1171 q1173 qs67 ar_X3_nexts o14 (by decide : 3 < 9) rfl (Nat.le_of_ble_eq_true rfl)) rfl (Nat.le_of_eq (Nat.zero_add _)) (Nat.le_of_eq (Nat.zero_add _)) (fun v14 w14 h => ?_) (fun E14 w14 h => ?_) h
    · obtain ⟨x14, rfl, h⟩ := h
      refine wp_iconst (n := 18) (v := 1) dX3_isLoose_17 rfl (by decide) ?_
      refine wp_icmp_ne (n := 21) (t := 25) dX3_isLoose_18 rfl (by decide) (fun c18 => ?_) (fun c18 => ?_)
      · replace h := h.1 c18
        refine wp_iconst (n := 26) (v := 0) dX3_isLoose_25 rfl (by decide) ?_
        exact wp_zreturn dX3_isLoose_26 rfl (by decide) h
      · replace h := h.2 c18
        refine wp_iconst (n := 22) (v := 1) dX3_isLoose_21 rfl (by decide) ?_
        refine wp_goto (t := 26) dX3_isLoose_22 (by decide) ?_
        exact wp_zreturn dX3_isLoose_26 rfl (by decide) h
    · exact h.elim
set_option maxHeartbeats 1000000 in
theorem sg_X3_expire_0 {h0 : Nat} {i1 : Int32} {i2 : Int32} {i3 : Int32} {rc rs : Nat} {QR : Option aV → aW → Prop} {QX : String → aW → Prop} {w : aW} (h : ct (KX3_in) 0 0 [vI i2, vI 0, vI 20] w (fun v4 w4 => ∃ x4 : Int32, v4 = some (vI x4) ∧ (x4 = 0 → QR (some (vI (-2))) w4) ∧ (¬ x4 = 0 → ct (KX3_in) 0 0 [vI i3, vI 1, vI 100] w4 (fun v14 w14 => ∃ x14 : Int32, v14 = some (vI x14) ∧ (¬ x14 = 0 → isO w14 h0 3 ∧ ct (KX3_asked) 0 0 [vR (some h0), vI i1, vI 0] w14 (fun v26 w26 => ∃ x26 : Int32, v26 = some (vI x26) ∧ (x26 = 0 → isO w26 h0 3 ∧ ct (KX3_looksForOwned) 0 0 [vR (some h0), vI i1] w26 (fun v41 w41 => v41 = none ∧ ∃ x48 : Int32, gf w41 h0 [3] 7 (vI x48) ∧ wp (KX3_expire) rc rs QR QX 55 [(0, vR (some h0)), (1, vI i1), (2, vI i2), (3, vI i3), (4, vI x26), (5, vI 0), (6, vI (x48 - 1))] [] w41) (fun E41 w41 => False)) ∧ (¬ x26 = 0 → QR (some (vI x26)) w26)) (fun E26 w26 => False)) ∧ (x14 = 0 → QR (some (vI (-2))) w14)) (fun E14 w14 => False))) (fun E4 w4 => False)) : wp (KX3_expire) rc rs QR QX 0 [(0, vR (some h0)), (1, vI i1), (2, vI i2), (3, vI i3)] [] w := by
  refine wp_iload_n (n := 1) (i := 2) (q := 2) dX3_expire_0 rfl rfl rfl ?_
  refine wp_iconst (n := 2) (v := 0) dX3_expire_1 rfl (by decide) ?_
  refine wp_bipush (n := 4) (v := 20) dX3_expire_2 rfl (by decide) ?_
  refine wp_call (n := 7) (K' := KX3_in) (rc' := rc) (rs' := rs) (aRun_S (K' := KX3_in) (As := [vI i2, vI 0, vI 20]) (rest := []) dX3_expire_4 (aCal_of kf_X3_in (Nat.le_of_ble_eq_true rfl)) rfl q1077 q1078 ar_X3_in rfl (Nat.le_of_ble_eq_true rfl)) rfl (Nat.le_of_eq (Nat.zero_add _)) (Nat.le_of_eq (Nat.zero_add _)) (fun v4 w4 h => ?_) (fun E4 w4 h => ?_) h
  · obtain ⟨x4, rfl, h⟩ := h
    refine wp_if_eq (n := 10) (t := 20) dX3_expire_7 rfl (by decide) (fun c7 => ?_) (fun c7 => ?_)
    · replace h := h.1 c7
      refine wp_bipush (n := 22) (v := (-2)) dX3_expire_20 rfl (by decide) ?_
      exact wp_ireturn dX3_expire_22 rfl h
    · replace h := h.2 c7
      refine wp_iload_n (n := 11) (i := 3) (q := 3) dX3_expire_10 rfl rfl rfl ?_
      refine wp_iconst (n := 12) (v := 1) dX3_expire_11 rfl (by decide) ?_
      refine wp_bipush (n := 14) (v := 100) dX3_expire_12 rfl (by decide) ?_
      refine wp_call (n := 17) (K' := KX3_in) (rc' := rc) (rs' := rs) (aRun_S (K' := KX3_in) (As := [vI i3, vI 1, vI 100]) (rest := []) dX3_expire_14 (aCal_of kf_X3_in (Nat.le_of_ble_eq_true rfl)) rfl q1077 q1078 ar_X3_in rfl (Nat.le_of_ble_eq_true rfl)) rfl (Nat.le_of_eq (Nat.zero_add _)) (Nat.le_of_eq (Nat.zero_add _)) (fun v14 w14 h => ?_) (fun E14 w14 h => ?_) h
      · obtain ⟨x14, rfl, h⟩ := h
        refine wp_if_ne (n := 20) (t := 23) dX3_expire_17 rfl (by decide) (fun c17 => ?_) (fun c17 => ?_)
        · replace h := h.1 c17
          refine wp_aload_n (n := 24) (i := 0) (q := 0) dX3_expire_23 rfl rfl rfl ?_
          refine wp_iload_n (n := 25) (i := 1) (q := 1) dX3_expire_24 rfl rfl rfl ?_
          refine wp_iconst (n := 26) (v := 0) dX3_expire_25 rfl (by decide) ?_
          obtain ⟨⟨fs26, o26⟩, h⟩ := h
          refine wp_call (n := 29) (K' := KX3_asked) (rc' := rc) (rs' := rs) (aRun_V (K' := KX3_asked) (As := [vI i1, vI 0]) (rest := []) (b := h0) (c0 := .inr (3, fs26)) dX3_expire_26 (aCal_of kf_X3_asked (Nat.le_of_ble_eq_true rfl)) q1092 q1094 qs53 ar_X3_asked o26 (by decide : 3 < 9) rfl (Nat.le_of_ble_eq_true rfl)) rfl (Nat.le_of_eq (Nat.zero_add _)) (Nat.le_of_eq (Nat.zero_add _)) (fun v26 w26 h => ?_) (fun E26 w26 h => ?_) h
          · obtain ⟨x26, rfl, h⟩ := h
            refine wp_istore (n := 31) (i := 4) (ls' := [(4, vI x26), (0, vR (some h0)), (1, vI i1), (2, vI i2), (3, vI i3)]) dX3_expire_29 rfl (Nat.le_of_ble_eq_true rfl) rfl ?_
            refine wp_iload (n := 33) (i := 4) (q := 0) dX3_expire_31 rfl rfl ?_
            refine wp_if_eq (n := 36) (t := 39) dX3_expire_33 rfl (by decide) (fun c33 => ?_) (fun c33 => ?_)
            · replace h := h.1 c33
              refine wp_aload_n (n := 40) (i := 0) (q := 1) dX3_expire_39 rfl rfl rfl ?_
              refine wp_iload_n (n := 41) (i := 1) (q := 2) dX3_expire_40 rfl rfl rfl ?_
              obtain ⟨⟨fs41, o41⟩, h⟩ := h
              refine wp_call (n := 44) (K' := KX3_looksForOwned) (rc' := rc) (rs' := rs) (aRun_V (K' := KX3_looksForOwned) (As := [vI i1]) (rest := []) (b := h0) (c0 := .inr (3, fs41)) dX3_expire_41 (aCal_of kf_X3_looksForOwned (Nat.le_of_ble_eq_true rfl)) q1277 q1279 qs77 ar_X3_looksForOwned o41 (by decide : 3 < 9) rfl (Nat.le_of_ble_eq_true rfl)) rfl (Nat.le_of_eq (Nat.zero_add _)) (Nat.le_of_eq (Nat.zero_add _)) (fun v41 w41 h => ?_) (fun E41 w41 h => ?_) h
              · obtain ⟨rfl, h⟩ := h
                refine wp_iconst (n := 45) (v := 0) dX3_expire_44 rfl (by decide) ?_
                refine wp_istore (n := 47) (i := 5) (ls' := [(5, vI 0), (4, vI x26), (0, vR (some h0)), (1, vI i1), (2, vI i2), (3, vI i3)]) dX3_expire_45 rfl (Nat.le_of_ble_eq_true rfl) rfl ?_
                refine wp_aload_n (n := 48) (i := 0) (q := 2) dX3_expire_47 rfl rfl rfl ?_
                obtain ⟨x48, g48, h⟩ := h
                refine wp_gf (n := 51) dX3_expire_48 rfl fl_X3_139 g48 ?_
                refine wp_iconst (n := 52) (v := 1) dX3_expire_51 rfl (by decide) ?_
                refine wp_isub (n := 53) dX3_expire_52 rfl ?_
                refine wp_istore (n := 55) (i := 6) (ls' := [(6, vI (x48 - 1)), (5, vI 0), (4, vI x26), (0, vR (some h0)), (1, vI i1), (2, vI i2), (3, vI i3)]) dX3_expire_53 rfl (Nat.le_of_ble_eq_true rfl) rfl ?_
                exact wp_sub [3, 4, 5, 6, 2, 1, 0] rfl h
              · exact h.elim
            · replace h := h.2 c33
              refine wp_iload (n := 38) (i := 4) (q := 0) dX3_expire_36 rfl rfl ?_
              exact wp_ireturn dX3_expire_38 rfl h
          · exact h.elim
        · replace h := h.2 c17
          refine wp_bipush (n := 22) (v := (-2)) dX3_expire_20 rfl (by decide) ?_
          exact wp_ireturn dX3_expire_22 rfl h
      · exact h.elim
  · exact h.elim
set_option maxHeartbeats 1000000 in
theorem sg_X3_expire_55 {h0 : Nat} {i1 : Int32} {i2 : Int32} {i3 : Int32} {i4 : Int32} {i5 : Int32} {i6 : Int32} {rc rs : Nat} {QR : Option aV → aW → Prop} {QX : String → aW → Prop} {w : aW} (h : (i6 < i2 → QR (some (vI i5)) w) ∧ (¬ i6 < i2 → ∃ x62 : Nat, gf w h0 [3] 6 (vR (some x62)) ∧ ∃ x67 : Int32, gI w x62 i6 x67 ∧ ∃ x71 : Nat, gf w h0 [3] 1 (vR (some x71)) ∧ ∃ x79 : Int32, gI w x71 (22 + x67) x79 ∧ ¬ i3 = 0 ∧ ((x79 - x79 / i3 * i3) = 0 → wp (KX3_expire) rc rs QR QX 55 [(0, vR (some h0)), (1, vI i1), (2, vI i2), (3, vI i3), (4, vI i4), (5, vI i5), (6, vI (i6 + (-1)))] [] w) ∧ (¬ (x79 - x79 / i3 * i3) = 0 → isO w h0 3 ∧ ct (KX3_isLoose) 0 0 [vR (some h0), vI x67] w (fun v88 w88 => ∃ x88 : Int32, v88 = some (vI x88) ∧ (x88 = 0 → wp (KX3_expire) rc rs QR QX 55 [(0, vR (some h0)), (1, vI i1), (2, vI i2), (3, vI i3), (4, vI i4), (5, vI i5), (6, vI (i6 + (-1)))] [] w88) ∧ (¬ x88 = 0 → isO w88 h0 3 ∧ ct (KX3_removed) 0 0 [vR (some h0), vI x67] w88 (fun v97 w97 => ∃ x97 : Int32, v97 = some (vI x97) ∧ wp (KX3_expire) rc rs QR QX 55 [(0, vR (some h0)), (1, vI i1), (2, vI i2), (3, vI i3), (4, vI i4), (5, vI (i5 + 1)), (6, vI (i6 + (-1)))] [] w97) (fun E97 w97 => False))) (fun E88 w88 => False)))) : wp (KX3_expire) rc rs QR QX 55 [(0, vR (some h0)), (1, vI i1), (2, vI i2), (3, vI i3), (4, vI i4), (5, vI i5), (6, vI i6)] [] w := by
  refine wp_iload (n := 57) (i := 6) (q := 6) dX3_expire_55 rfl rfl ?_
  refine wp_iload_n (n := 58) (i := 2) (q := 2) dX3_expire_57 rfl rfl rfl ?_
  refine wp_icmp_lt (n := 61) (t := 110) dX3_expire_58 rfl (by decide) (fun c58 => ?_) (fun c58 => ?_)
  · replace h := h.1 c58
    refine wp_iload (n := 112) (i := 5) (q := 5) dX3_expire_110 rfl rfl ?_
    exact wp_ireturn dX3_expire_112 rfl h
  · replace h := h.2 c58
    refine wp_aload_n (n := 62) (i := 0) (q := 0) dX3_expire_61 rfl rfl rfl ?_
    obtain ⟨x62, g62, h⟩ := h
    refine wp_gf (n := 65) dX3_expire_62 rfl fl_X3_22 g62 ?_
    refine wp_iload (n := 67) (i := 6) (q := 6) dX3_expire_65 rfl rfl ?_
    obtain ⟨x67, g67, h⟩ := h
    refine wp_gI (n := 68) dX3_expire_67 rfl g67 ?_
    refine wp_istore (n := 70) (i := 7) (ls' := [(7, vI x67), (0, vR (some h0)), (1, vI i1), (2, vI i2), (3, vI i3), (4, vI i4), (5, vI i5), (6, vI i6)]) dX3_expire_68 rfl (Nat.le_of_ble_eq_true rfl) rfl ?_
    refine wp_aload_n (n := 71) (i := 0) (q := 1) dX3_expire_70 rfl rfl rfl ?_
    obtain ⟨x71, g71, h⟩ := h
    refine wp_gf (n := 74) dX3_expire_71 rfl fl_X3_7 g71 ?_
    refine wp_bipush (n := 76) (v := 22) dX3_expire_74 rfl (by decide) ?_
    refine wp_iload (n := 78) (i := 7) (q := 0) dX3_expire_76 rfl rfl ?_
    refine wp_iadd (n := 79) dX3_expire_78 rfl ?_
    obtain ⟨x79, g79, h⟩ := h
    refine wp_gI (n := 80) dX3_expire_79 rfl g79 ?_
    refine wp_iload_n (n := 81) (i := 3) (q := 4) dX3_expire_80 rfl rfl rfl ?_
    obtain ⟨z81, h⟩ := h
    refine wp_irem (n := 82) dX3_expire_81 rfl z81 ?_
    refine wp_if_eq (n := 85) (t := 104) dX3_expire_82 rfl (by decide) (fun c82 => ?_) (fun c82 => ?_)
    · replace h := h.1 c82
      refine wp_iinc (n := 107) (i := 6) (q := 7) (v := i6 + (-1)) (ls' := [(6, vI (i6 + (-1))), (7, vI x67), (0, vR (some h0)), (1, vI i1), (2, vI i2), (3, vI i3), (4, vI i4), (5, vI i5)]) dX3_expire_104 rfl rfl rfl (Nat.le_of_ble_eq_true rfl) rfl ?_
      refine wp_goto (t := 55) dX3_expire_107 (by decide) ?_
      exact wp_sub [2, 3, 4, 5, 6, 7, 0] rfl h
    · replace h := h.2 c82
      refine wp_aload_n (n := 86) (i := 0) (q := 1) dX3_expire_85 rfl rfl rfl ?_
      refine wp_iload (n := 88) (i := 7) (q := 0) dX3_expire_86 rfl rfl ?_
      obtain ⟨⟨fs88, o88⟩, h⟩ := h
      refine wp_call (n := 91) (K' := KX3_isLoose) (rc' := rc) (rs' := rs) (aRun_V (K' := KX3_isLoose) (As := [vI x67]) (rest := []) (b := h0) (c0 := .inr (3, fs88)) dX3_expire_88 (aCal_of kf_X3_isLoose (Nat.le_of_ble_eq_true rfl)) q1285 q1287 qs79 ar_X3_isLoose o88 (by decide : 3 < 9) rfl (Nat.le_of_ble_eq_true rfl)) rfl (Nat.le_of_eq (Nat.zero_add _)) (Nat.le_of_eq (Nat.zero_add _)) (fun v88 w88 h => ?_) (fun E88 w88 h => ?_) h
      · obtain ⟨x88, rfl, h⟩ := h
        refine wp_if_eq (n := 94) (t := 104) dX3_expire_91 rfl (by decide) (fun c91 => ?_) (fun c91 => ?_)
        · replace h := h.1 c91
          refine wp_iinc (n := 107) (i := 6) (q := 7) (v := i6 + (-1)) (ls' := [(6, vI (i6 + (-1))), (7, vI x67), (0, vR (some h0)), (1, vI i1), (2, vI i2), (3, vI i3), (4, vI i4), (5, vI i5)]) dX3_expire_104 rfl rfl rfl (Nat.le_of_ble_eq_true rfl) rfl ?_
          refine wp_goto (t := 55) dX3_expire_107 (by decide) ?_
          exact wp_sub [2, 3, 4, 5, 6, 7, 0] rfl h
        · replace h := h.2 c91
          refine wp_aload_n (n := 95) (i := 0) (q := 1) dX3_expire_94 rfl rfl rfl ?_
          refine wp_iload (n := 97) (i := 7) (q := 0) dX3_expire_95 rfl rfl ?_
          obtain ⟨⟨fs97, o97⟩, h⟩ := h
          refine wp_call (n := 100) (K' := KX3_removed) (rc' := rc) (rs' := rs) (aRun_V (K' := KX3_removed) (As := [vI x67]) (rest := []) (b := h0) (c0 := .inr (3, fs97)) dX3_expire_97 (aCal_of kf_X3_removed (Nat.le_of_ble_eq_true rfl)) q1179 q1181 qs69 ar_X3_removed o97 (by decide : 3 < 9) rfl (Nat.le_of_ble_eq_true rfl)) rfl (Nat.le_of_eq (Nat.zero_add _)) (Nat.le_of_eq (Nat.zero_add _)) (fun v97 w97 h => ?_) (fun E97 w97 h => ?_) h
          · obtain ⟨x97, rfl, h⟩ := h
            refine wp_pop (n := 101) dX3_expire_100 rfl rfl ?_
            refine wp_iinc (n := 104) (i := 5) (q := 6) (v := i5 + 1) (ls' := [(5, vI (i5 + 1)), (7, vI x67), (0, vR (some h0)), (1, vI i1), (2, vI i2), (3, vI i3), (4, vI i4), (6, vI i6)]) dX3_expire_101 rfl rfl rfl (Nat.le_of_ble_eq_true rfl) rfl ?_
            refine wp_iinc (n := 107) (i := 6) (q := 7) (v := i6 + (-1)) (ls' := [(6, vI (i6 + (-1))), (5, vI (i5 + 1)), (7, vI x67), (0, vR (some h0)), (1, vI i1), (2, vI i2), (3, vI i3), (4, vI i4)]) dX3_expire_104 rfl rfl rfl (Nat.le_of_ble_eq_true rfl) rfl ?_
            refine wp_goto (t := 55) dX3_expire_107 (by decide) ?_
            exact wp_sub [3, 4, 5, 6, 7, 1, 0] rfl h
          · exact h.elim
      · exact h.elim
set_option maxHeartbeats 1000000 in
theorem sg_X3_looksForHolders_0 {h0 : Nat} {rc rs : Nat} {QR : Option aV → aW → Prop} {QX : String → aW → Prop} {w : aW} (h : ∃ x1 : Int32, gf w h0 [3] 7 (vI x1) ∧ (8 ≤ x1 → isO w h0 3 ∧ ct (KX3_counts) 0 0 [vR (some h0)] w (fun v22 w22 => v22 = none ∧ wp (KX3_looksForHolders) rc rs QR QX 27 [(0, vR (some h0)), (1, vI 8), (2, vI 0), (3, vI 0)] [] w22) (fun E22 w22 => False)) ∧ (¬ 8 ≤ x1 → ∃ x10 : Int32, gf w h0 [3] 7 (vI x10) ∧ isO w h0 3 ∧ ct (KX3_counts) 0 0 [vR (some h0)] w (fun v22 w22 => v22 = none ∧ wp (KX3_looksForHolders) rc rs QR QX 27 [(0, vR (some h0)), (1, vI x10), (2, vI 0), (3, vI 0)] [] w22) (fun E22 w22 => False))) : wp (KX3_looksForHolders) rc rs QR QX 0 [(0, vR (some h0))] [] w := by
  refine wp_aload_n (n := 1) (i := 0) (q := 0) dX3_looksForHolders_0 rfl rfl rfl ?_
  obtain ⟨x1, g1, h⟩ := h
  refine wp_gf (n := 4) dX3_looksForHolders_1 rfl fl_X3_139 g1 ?_
  refine wp_bipush (n := 6) (v := 8) dX3_looksForHolders_4 rfl (by decide) ?_
  refine wp_icmp_ge (n := 9) (t := 16) dX3_looksForHolders_6 rfl (by decide) (fun c6 => ?_) (fun c6 => ?_)
  · replace h := h.1 c6
    refine wp_bipush (n := 18) (v := 8) dX3_looksForHolders_16 rfl (by decide) ?_
    refine wp_istore_n (n := 19) (i := 1) (ls' := [(1, vI 8), (0, vR (some h0))]) dX3_looksForHolders_18 rfl rfl (Nat.le_of_ble_eq_true rfl) rfl ?_
    refine wp_iconst (n := 20) (v := 0) dX3_looksForHolders_19 rfl (by decide) ?_
    refine wp_istore_n (n := 21) (i := 2) (ls' := [(2, vI 0), (1, vI 8), (0, vR (some h0))]) dX3_looksForHolders_20 rfl rfl (Nat.le_of_ble_eq_true rfl) rfl ?_
    refine wp_aload_n (n := 22) (i := 0) (q := 2) dX3_looksForHolders_21 rfl rfl rfl ?_
    obtain ⟨⟨fs22, o22⟩, h⟩ := h
    refine wp_call (n := 25) (K' := KX3_counts) (rc' := rc) (rs' := rs) (aRun_V (K' := KX3_counts) (As := []) (rest := []) (b := h0) (c0 := .inr (3, fs22)) dX3_looksForHolders_22 (aCal_of kf_X3_counts (Nat.le_of_ble_eq_true rfl)) q1127 q1129 qs61 ar_X3_counts o22 (by decide : 3 < 9) rfl (Nat.le_of_ble_eq_true rfl)) rfl (Nat.le_of_eq (Nat.zero_add _)) (Nat.le_of_eq (Nat.zero_add _)) (fun v22 w22 h => ?_) (fun E22 w22 h => ?_) h
    · obtain ⟨rfl, h⟩ := h
      refine wp_iconst (n := 26) (v := 0) dX3_looksForHolders_25 rfl (by decide) ?_
      refine wp_istore_n (n := 27) (i := 3) (ls' := [(3, vI 0), (2, vI 0), (1, vI 8), (0, vR (some h0))]) dX3_looksForHolders_26 rfl rfl (Nat.le_of_ble_eq_true rfl) rfl ?_
      exact wp_sub [3, 2, 1, 0] rfl h
    · exact h.elim
  · replace h := h.2 c6
    refine wp_aload_n (n := 10) (i := 0) (q := 0) dX3_looksForHolders_9 rfl rfl rfl ?_
    obtain ⟨x10, g10, h⟩ := h
    refine wp_gf (n := 13) dX3_looksForHolders_10 rfl fl_X3_139 g10 ?_
    refine wp_goto (t := 18) dX3_looksForHolders_13 (by decide) ?_
    refine wp_istore_n (n := 19) (i := 1) (ls' := [(1, vI x10), (0, vR (some h0))]) dX3_looksForHolders_18 rfl rfl (Nat.le_of_ble_eq_true rfl) rfl ?_
    refine wp_iconst (n := 20) (v := 0) dX3_looksForHolders_19 rfl (by decide) ?_
    refine wp_istore_n (n := 21) (i := 2) (ls' := [(2, vI 0), (1, vI x10), (0, vR (some h0))]) dX3_looksForHolders_20 rfl rfl (Nat.le_of_ble_eq_true rfl) rfl ?_
    refine wp_aload_n (n := 22) (i := 0) (q := 2) dX3_looksForHolders_21 rfl rfl rfl ?_
    obtain ⟨⟨fs22, o22⟩, h⟩ := h
    refine wp_call (n := 25) (K' := KX3_counts) (rc' := rc) (rs' := rs) (aRun_V (K' := KX3_counts) (As := []) (rest := []) (b := h0) (c0 := .inr (3, fs22)) dX3_looksForHolders_22 (aCal_of kf_X3_counts (Nat.le_of_ble_eq_true rfl)) q1127 q1129 qs61 ar_X3_counts o22 (by decide : 3 < 9) rfl (Nat.le_of_ble_eq_true rfl)) rfl (Nat.le_of_eq (Nat.zero_add _)) (Nat.le_of_eq (Nat.zero_add _)) (fun v22 w22 h => ?_) (fun E22 w22 h => ?_) h
    · obtain ⟨rfl, h⟩ := h
      refine wp_iconst (n := 26) (v := 0) dX3_looksForHolders_25 rfl (by decide) ?_
      refine wp_istore_n (n := 27) (i := 3) (ls' := [(3, vI 0), (2, vI 0), (1, vI x10), (0, vR (some h0))]) dX3_looksForHolders_26 rfl rfl (Nat.le_of_ble_eq_true rfl) rfl ?_
      exact wp_sub [3, 2, 1, 0] rfl h
    · exact h.elim
set_option maxHeartbeats 1000000 in
theorem sg_X3_looksForHolders_27 {h0 : Nat} {i1 : Int32} {i2 : Int32} {i3 : Int32} {rc rs : Nat} {QR : Option aV → aW → Prop} {QX : String → aW → Prop} {w : aW} (h : (96 ≤ i3 → wp (KX3_looksForHolders) rc rs QR QX 48 [(0, vR (some h0)), (1, vI i1), (2, vI i2), (3, vI 0)] [] w) ∧ (¬ 96 ≤ i3 → ∃ x34 : Nat, gf w h0 [3] 8 (vR (some x34)) ∧ pI w x34 i3 0 (fun w39 => wp (KX3_looksForHolders) rc rs QR QX 27 [(0, vR (some h0)), (1, vI i1), (2, vI i2), (3, vI (i3 + 1))] [] w39))) : wp (KX3_looksForHolders) rc rs QR QX 27 [(0, vR (some h0)), (1, vI i1), (2, vI i2), (3, vI i3)] [] w := by
  refine wp_iload_n (n := 28) (i := 3) (q := 3) dX3_looksForHolders_27 rfl rfl rfl ?_
  refine wp_bipush (n := 30) (v := 96) dX3_looksForHolders_28 rfl (by decide) ?_
  refine wp_icmp_ge (n := 33) (t := 46) dX3_looksForHolders_30 rfl (by decide) (fun c30 => ?_) (fun c30 => ?_)
  · replace h := h.1 c30
    refine wp_iconst (n := 47) (v := 0) dX3_looksForHolders_46 rfl (by decide) ?_
    refine wp_istore_n (n := 48) (i := 3) (ls' := [(3, vI 0), (0, vR (some h0)), (1, vI i1), (2, vI i2)]) dX3_looksForHolders_47 rfl rfl (Nat.le_of_ble_eq_true rfl) rfl ?_
    exact wp_sub [1, 2, 3, 0] rfl h
  · replace h := h.2 c30
    refine wp_aload_n (n := 34) (i := 0) (q := 0) dX3_looksForHolders_33 rfl rfl rfl ?_
    obtain ⟨x34, g34, h⟩ := h
    refine wp_gf (n := 37) dX3_looksForHolders_34 rfl fl_X3_25 g34 ?_
    refine wp_iload_n (n := 38) (i := 3) (q := 3) dX3_looksForHolders_37 rfl rfl rfl ?_
    refine wp_iconst (n := 39) (v := 0) dX3_looksForHolders_38 rfl (by decide) ?_
    refine wp_pI (n := 40) dX3_looksForHolders_39 rfl (pI_mono h (fun w39 h => ?_))
    refine wp_iinc (n := 43) (i := 3) (q := 3) (v := i3 + 1) (ls' := [(3, vI (i3 + 1)), (0, vR (some h0)), (1, vI i1), (2, vI i2)]) dX3_looksForHolders_40 rfl rfl rfl (Nat.le_of_ble_eq_true rfl) rfl ?_
    refine wp_goto (t := 27) dX3_looksForHolders_43 (by decide) ?_
    exact wp_sub [1, 2, 3, 0] rfl h
set_option maxHeartbeats 1000000 in
theorem sg_X3_looksForHolders_48 {h0 : Nat} {i1 : Int32} {i2 : Int32} {i3 : Int32} {rc rs : Nat} {QR : Option aV → aW → Prop} {QX : String → aW → Prop} {w : aW} (h : (i1 ≤ i3 → wp (KX3_looksForHolders) rc rs QR QX 151 [(0, vR (some h0)), (1, vI i1), (2, vI i2), (3, vI 0)] [] w) ∧ (¬ i1 ≤ i3 → ∃ x54 : Nat, gf w h0 [3] 6 (vR (some x54)) ∧ ∃ x58 : Int32, gI w x54 i3 x58 ∧ isO w h0 3 ∧ ct (KX3_isLoose) 0 0 [vR (some h0), vI x58] w (fun v65 w65 => ∃ x65 : Int32, v65 = some (vI x65) ∧ (x65 = 0 → wp (KX3_looksForHolders) rc rs QR QX 83 [(0, vR (some h0)), (1, vI i1), (2, vI (i2 ||| 0)), (3, vI i3), (4, vI x58), (5, vI 0)] [] w65) ∧ (¬ x65 = 0 → wp (KX3_looksForHolders) rc rs QR QX 83 [(0, vR (some h0)), (1, vI i1), (2, vI (i2 ||| (1 <<< (i3 &&& 31)))), (3, vI i3), (4, vI x58), (5, vI 0)] [] w65)) (fun E65 w65 => False))) : wp (KX3_looksForHolders) rc rs QR QX 48 [(0, vR (some h0)), (1, vI i1), (2, vI i2), (3, vI i3)] [] w := by
  refine wp_iload_n (n := 49) (i := 3) (q := 3) dX3_looksForHolders_48 rfl rfl rfl ?_
  refine wp_iload_n (n := 50) (i := 1) (q := 1) dX3_looksForHolders_49 rfl rfl rfl ?_
  refine wp_icmp_ge (n := 53) (t := 149) dX3_looksForHolders_50 rfl (by decide) (fun c50 => ?_) (fun c50 => ?_)
  · replace h := h.1 c50
    refine wp_iconst (n := 150) (v := 0) dX3_looksForHolders_149 rfl (by decide) ?_
    refine wp_istore_n (n := 151) (i := 3) (ls' := [(3, vI 0), (0, vR (some h0)), (1, vI i1), (2, vI i2)]) dX3_looksForHolders_150 rfl rfl (Nat.le_of_ble_eq_true rfl) rfl ?_
    exact wp_sub [1, 2, 3, 0] rfl h
  · replace h := h.2 c50
    refine wp_aload_n (n := 54) (i := 0) (q := 0) dX3_looksForHolders_53 rfl rfl rfl ?_
    obtain ⟨x54, g54, h⟩ := h
    refine wp_gf (n := 57) dX3_looksForHolders_54 rfl fl_X3_22 g54 ?_
    refine wp_iload_n (n := 58) (i := 3) (q := 3) dX3_looksForHolders_57 rfl rfl rfl ?_
    obtain ⟨x58, g58, h⟩ := h
    refine wp_gI (n := 59) dX3_looksForHolders_58 rfl g58 ?_
    refine wp_istore (n := 61) (i := 4) (ls' := [(4, vI x58), (0, vR (some h0)), (1, vI i1), (2, vI i2), (3, vI i3)]) dX3_looksForHolders_59 rfl (Nat.le_of_ble_eq_true rfl) rfl ?_
    refine wp_iload_n (n := 62) (i := 2) (q := 3) dX3_looksForHolders_61 rfl rfl rfl ?_
    refine wp_aload_n (n := 63) (i := 0) (q := 1) dX3_looksForHolders_62 rfl rfl rfl ?_
    refine wp_iload (n := 65) (i := 4) (q := 0) dX3_looksForHolders_63 rfl rfl ?_
    obtain ⟨⟨fs65, o65⟩, h⟩ := h
    refine wp_call (n := 68) (K' := KX3_isLoose) (rc' := rc) (rs' := rs) (aRun_V (K' := KX3_isLoose) (As := [vI x58]) (rest := [vI i2]) (b := h0) (c0 := .inr (3, fs65)) dX3_looksForHolders_65 (aCal_of kf_X3_isLoose (Nat.le_of_ble_eq_true rfl)) q1285 q1287 qs79 ar_X3_isLoose o65 (by decide : 3 < 9) rfl (Nat.le_of_ble_eq_true rfl)) rfl (Nat.le_of_eq (Nat.zero_add _)) (Nat.le_of_eq (Nat.zero_add _)) (fun v65 w65 h => ?_) (fun E65 w65 h => ?_) h
    · obtain ⟨x65, rfl, h⟩ := h
      refine wp_if_eq (n := 71) (t := 77) dX3_looksForHolders_68 rfl (by decide) (fun c68 => ?_) (fun c68 => ?_)
      · replace h := h.1 c68
        refine wp_iconst (n := 78) (v := 0) dX3_looksForHolders_77 rfl (by decide) ?_
        refine wp_ior (n := 79) dX3_looksForHolders_78 rfl ?_
        refine wp_istore_n (n := 80) (i := 2) (ls' := [(2, vI (i2 ||| 0)), (4, vI x58), (0, vR (some h0)), (1, vI i1), (3, vI i3)]) dX3_looksForHolders_79 rfl rfl (Nat.le_of_ble_eq_true rfl) rfl ?_
        refine wp_iconst (n := 81) (v := 0) dX3_looksForHolders_80 rfl (by decide) ?_
        refine wp_istore (n := 83) (i := 5) (ls' := [(5, vI 0), (2, vI (i2 ||| 0)), (4, vI x58), (0, vR (some h0)), (1, vI i1), (3, vI i3)]) dX3_looksForHolders_81 rfl (Nat.le_of_ble_eq_true rfl) rfl ?_
        exact wp_sub [3, 4, 1, 5, 2, 0] rfl h
      · replace h := h.2 c68
        refine wp_iconst (n := 72) (v := 1) dX3_looksForHolders_71 rfl (by decide) ?_
        refine wp_iload_n (n := 73) (i := 3) (q := 4) dX3_looksForHolders_72 rfl rfl rfl ?_
        refine wp_ishl (n := 74) dX3_looksForHolders_73 rfl ?_
        refine wp_goto (t := 78) dX3_looksForHolders_74 (by decide) ?_
        refine wp_ior (n := 79) dX3_looksForHolders_78 rfl ?_
        refine wp_istore_n (n := 80) (i := 2) (ls' := [(2, vI (i2 ||| (1 <<< (i3 &&& 31)))), (4, vI x58), (0, vR (some h0)), (1, vI i1), (3, vI i3)]) dX3_looksForHolders_79 rfl rfl (Nat.le_of_ble_eq_true rfl) rfl ?_
        refine wp_iconst (n := 81) (v := 0) dX3_looksForHolders_80 rfl (by decide) ?_
        refine wp_istore (n := 83) (i := 5) (ls' := [(5, vI 0), (2, vI (i2 ||| (1 <<< (i3 &&& 31)))), (4, vI x58), (0, vR (some h0)), (1, vI i1), (3, vI i3)]) dX3_looksForHolders_81 rfl (Nat.le_of_ble_eq_true rfl) rfl ?_
        exact wp_sub [3, 4, 1, 5, 2, 0] rfl h
    · exact h.elim
set_option maxHeartbeats 1000000 in
theorem sg_X3_looksForHolders_83 {h0 : Nat} {i1 : Int32} {i2 : Int32} {i3 : Int32} {i4 : Int32} {i5 : Int32} {rc rs : Nat} {QR : Option aV → aW → Prop} {QX : String → aW → Prop} {w : aW} (h : (12 ≤ i5 → wp (KX3_looksForHolders) rc rs QR QX 48 [(0, vR (some h0)), (1, vI i1), (2, vI i2), (3, vI (i3 + 1))] [] w) ∧ (¬ 12 ≤ i5 → ∃ x91 : Nat, gf w h0 [3] 1 (vR (some x91)) ∧ ∃ x105 : Int32, gI w x91 ((122 + (12 * i4)) + i5) x105 ∧ (x105 = (-1) → wp (KX3_looksForHolders) rc rs QR QX 83 [(0, vR (some h0)), (1, vI i1), (2, vI i2), (3, vI i3), (4, vI i4), (5, vI (i5 + 1))] [] w) ∧ (¬ x105 = (-1) → ∃ x111 : Nat, gf w h0 [3] 8 (vR (some x111)) ∧ ∃ x115 : Nat, gf w h0 [3] 1 (vR (some x115)) ∧ ∃ x129 : Int32, gI w x115 ((122 + (12 * i4)) + i5) x129 ∧ ∃ x131 : Int32, gI w x111 x129 x131 ∧ pI w x111 x129 (x131 ||| (1 <<< (i3 &&& 31))) (fun w136 => wp (KX3_looksForHolders) rc rs QR QX 83 [(0, vR (some h0)), (1, vI i1), (2, vI i2), (3, vI i3), (4, vI i4), (5, vI (i5 + 1))] [] w136)))) : wp (KX3_looksForHolders) rc rs QR QX 83 [(0, vR (some h0)), (1, vI i1), (2, vI i2), (3, vI i3), (4, vI i4), (5, vI i5)] [] w := by
  refine wp_iload (n := 85) (i := 5) (q := 5) dX3_looksForHolders_83 rfl rfl ?_
  refine wp_bipush (n := 87) (v := 12) dX3_looksForHolders_85 rfl (by decide) ?_
  refine wp_icmp_ge (n := 90) (t := 143) dX3_looksForHolders_87 rfl (by decide) (fun c87 => ?_) (fun c87 => ?_)
  · replace h := h.1 c87
    refine wp_iinc (n := 146) (i := 3) (q := 3) (v := i3 + 1) (ls' := [(3, vI (i3 + 1)), (0, vR (some h0)), (1, vI i1), (2, vI i2), (4, vI i4), (5, vI i5)]) dX3_looksForHolders_143 rfl rfl rfl (Nat.le_of_ble_eq_true rfl) rfl ?_
    refine wp_goto (t := 48) dX3_looksForHolders_146 (by decide) ?_
    exact wp_sub [1, 2, 3, 0] rfl h
  · replace h := h.2 c87
    refine wp_aload_n (n := 91) (i := 0) (q := 0) dX3_looksForHolders_90 rfl rfl rfl ?_
    obtain ⟨x91, g91, h⟩ := h
    refine wp_gf (n := 94) dX3_looksForHolders_91 rfl fl_X3_7 g91 ?_
    refine wp_bipush (n := 96) (v := 122) dX3_looksForHolders_94 rfl (by decide) ?_
    refine wp_bipush (n := 98) (v := 12) dX3_looksForHolders_96 rfl (by decide) ?_
    refine wp_iload (n := 100) (i := 4) (q := 4) dX3_looksForHolders_98 rfl rfl ?_
    refine wp_imul (n := 101) dX3_looksForHolders_100 rfl ?_
    refine wp_iadd (n := 102) dX3_looksForHolders_101 rfl ?_
    refine wp_iload (n := 104) (i := 5) (q := 5) dX3_looksForHolders_102 rfl rfl ?_
    refine wp_iadd (n := 105) dX3_looksForHolders_104 rfl ?_
    obtain ⟨x105, g105, h⟩ := h
    refine wp_gI (n := 106) dX3_looksForHolders_105 rfl g105 ?_
    refine wp_iconst (n := 107) (v := (-1)) dX3_looksForHolders_106 rfl (by decide) ?_
    refine wp_icmp_eq (n := 110) (t := 137) dX3_looksForHolders_107 rfl (by decide) (fun c107 => ?_) (fun c107 => ?_)
    · replace h := h.1 c107
      refine wp_iinc (n := 140) (i := 5) (q := 5) (v := i5 + 1) (ls' := [(5, vI (i5 + 1)), (0, vR (some h0)), (1, vI i1), (2, vI i2), (3, vI i3), (4, vI i4)]) dX3_looksForHolders_137 rfl rfl rfl (Nat.le_of_ble_eq_true rfl) rfl ?_
      refine wp_goto (t := 83) dX3_looksForHolders_140 (by decide) ?_
      exact wp_sub [1, 2, 3, 4, 5, 0] rfl h
    · replace h := h.2 c107
      refine wp_aload_n (n := 111) (i := 0) (q := 0) dX3_looksForHolders_110 rfl rfl rfl ?_
      obtain ⟨x111, g111, h⟩ := h
      refine wp_gf (n := 114) dX3_looksForHolders_111 rfl fl_X3_25 g111 ?_
      refine wp_aload_n (n := 115) (i := 0) (q := 0) dX3_looksForHolders_114 rfl rfl rfl ?_
      obtain ⟨x115, g115, h⟩ := h
      refine wp_gf (n := 118) dX3_looksForHolders_115 rfl fl_X3_7 g115 ?_
      refine wp_bipush (n := 120) (v := 122) dX3_looksForHolders_118 rfl (by decide) ?_
      refine wp_bipush (n := 122) (v := 12) dX3_looksForHolders_120 rfl (by decide) ?_
      refine wp_iload (n := 124) (i := 4) (q := 4) dX3_looksForHolders_122 rfl rfl ?_
      refine wp_imul (n := 125) dX3_looksForHolders_124 rfl ?_
      refine wp_iadd (n := 126) dX3_looksForHolders_125 rfl ?_
      refine wp_iload (n := 128) (i := 5) (q := 5) dX3_looksForHolders_126 rfl rfl ?_
      refine wp_iadd (n := 129) dX3_looksForHolders_128 rfl ?_
      obtain ⟨x129, g129, h⟩ := h
      refine wp_gI (n := 130) dX3_looksForHolders_129 rfl g129 ?_
      refine wp_dup2_11 (n := 131) dX3_looksForHolders_130 rfl rfl rfl ?_
      obtain ⟨x131, g131, h⟩ := h
      refine wp_gI (n := 132) dX3_looksForHolders_131 rfl g131 ?_
      refine wp_iconst (n := 133) (v := 1) dX3_looksForHolders_132 rfl (by decide) ?_
      refine wp_iload_n (n := 134) (i := 3) (q := 3) dX3_looksForHolders_133 rfl rfl rfl ?_
      refine wp_ishl (n := 135) dX3_looksForHolders_134 rfl ?_
      refine wp_ior (n := 136) dX3_looksForHolders_135 rfl ?_
      refine wp_pI (n := 137) dX3_looksForHolders_136 rfl (pI_mono h (fun w136 h => ?_))
      refine wp_iinc (n := 140) (i := 5) (q := 5) (v := i5 + 1) (ls' := [(5, vI (i5 + 1)), (0, vR (some h0)), (1, vI i1), (2, vI i2), (3, vI i3), (4, vI i4)]) dX3_looksForHolders_137 rfl rfl rfl (Nat.le_of_ble_eq_true rfl) rfl ?_
      refine wp_goto (t := 83) dX3_looksForHolders_140 (by decide) ?_
      exact wp_sub [1, 2, 3, 4, 5, 0] rfl h
set_option maxHeartbeats 1000000 in
theorem sg_X3_looksForHolders_151 {h0 : Nat} {i1 : Int32} {i2 : Int32} {i3 : Int32} {rc rs : Nat} {QR : Option aV → aW → Prop} {QX : String → aW → Prop} {w : aW} (h : (96 ≤ i3 → QR (some (vI i2)) w) ∧ (¬ 96 ≤ i3 → ∃ x158 : Nat, gf w h0 [3] 8 (vR (some x158)) ∧ ∃ x164 : Nat, gf w h0 [3] 8 (vR (some x164)) ∧ ∃ x168 : Int32, gI w x164 i3 x168 ∧ isO w h0 3 ∧ ct (KX3_countOf) 0 0 [vR (some h0), vI x168] w (fun v169 w169 => ∃ x169 : Int32, v169 = some (vI x169) ∧ ∃ x173 : Nat, gf w169 h0 [3] 5 (vR (some x173)) ∧ ∃ x177 : Int32, gI w169 x173 i3 x177 ∧ (¬ x169 = x177 → pI w169 x158 i3 0 (fun w191 => wp (KX3_looksForHolders) rc rs QR QX 151 [(0, vR (some h0)), (1, vI i1), (2, vI i2), (3, vI (i3 + 1))] [] w191)) ∧ (x169 = x177 → ∃ x182 : Nat, gf w169 h0 [3] 8 (vR (some x182)) ∧ ∃ x186 : Int32, gI w169 x182 i3 x186 ∧ pI w169 x158 i3 x186 (fun w191 => wp (KX3_looksForHolders) rc rs QR QX 151 [(0, vR (some h0)), (1, vI i1), (2, vI i2), (3, vI (i3 + 1))] [] w191))) (fun E169 w169 => False))) : wp (KX3_looksForHolders) rc rs QR QX 151 [(0, vR (some h0)), (1, vI i1), (2, vI i2), (3, vI i3)] [] w := by
  refine wp_iload_n (n := 152) (i := 3) (q := 3) dX3_looksForHolders_151 rfl rfl rfl ?_
  refine wp_bipush (n := 154) (v := 96) dX3_looksForHolders_152 rfl (by decide) ?_
  refine wp_icmp_ge (n := 157) (t := 198) dX3_looksForHolders_154 rfl (by decide) (fun c154 => ?_) (fun c154 => ?_)
  · replace h := h.1 c154
    refine wp_iload_n (n := 199) (i := 2) (q := 2) dX3_looksForHolders_198 rfl rfl rfl ?_
    exact wp_ireturn dX3_looksForHolders_199 rfl h
  · replace h := h.2 c154
    refine wp_aload_n (n := 158) (i := 0) (q := 0) dX3_looksForHolders_157 rfl rfl rfl ?_
    obtain ⟨x158, g158, h⟩ := h
    refine wp_gf (n := 161) dX3_looksForHolders_158 rfl fl_X3_25 g158 ?_
    refine wp_iload_n (n := 162) (i := 3) (q := 3) dX3_looksForHolders_161 rfl rfl rfl ?_
    refine wp_aload_n (n := 163) (i := 0) (q := 0) dX3_looksForHolders_162 rfl rfl rfl ?_
    refine wp_aload_n (n := 164) (i := 0) (q := 0) dX3_looksForHolders_163 rfl rfl rfl ?_
    obtain ⟨x164, g164, h⟩ := h
    refine wp_gf (n := 167) dX3_looksForHolders_164 rfl fl_X3_25 g164 ?_
    refine wp_iload_n (n := 168) (i := 3) (q := 3) dX3_looksForHolders_167 rfl rfl rfl ?_
    obtain ⟨x168, g168, h⟩ := h
    refine wp_gI (n := 169) dX3_looksForHolders_168 rfl g168 ?_
    obtain ⟨⟨fs169, o169⟩, h⟩ := h
    refine wp_call (n := 172) (K' := KX3_countOf) (rc' := rc) (rs' := rs) (aRun_V (K' := KX3_countOf) (As := [vI x168]) (rest := [vI i3, vR (some x158)]) (b := h0) (c0 := .inr (3, fs169)) dX3_looksForHolders_169 (aCal_of kf_X3_countOf (Nat.le_of_ble_eq_true rfl)) q1289 q1291 qs80 ar_X3_countOf o169 (by decide : 3 < 9) rfl (Nat.le_of_ble_eq_true rfl)) rfl (Nat.le_of_eq (Nat.zero_add _)) (Nat.le_of_eq (Nat.zero_add _)) (fun v169 w169 h => ?_) (fun E169 w169 h => ?_) h
    · obtain ⟨x169, rfl, h⟩ := h
      refine wp_aload_n (n := 173) (i := 0) (q := 0) dX3_looksForHolders_172 rfl rfl rfl ?_
      obtain ⟨x173, g173, h⟩ := h
      refine wp_gf (n := 176) dX3_looksForHolders_173 rfl fl_X3_19 g173 ?_
      refine wp_iload_n (n := 177) (i := 3) (q := 3) dX3_looksForHolders_176 rfl rfl rfl ?_
      obtain ⟨x177, g177, h⟩ := h
      refine wp_gI (n := 178) dX3_looksForHolders_177 rfl g177 ?_
      refine wp_icmp_ne (n := 181) (t := 190) dX3_looksForHolders_178 rfl (by decide) (fun c178 => ?_) (fun c178 => ?_)
      · replace h := h.1 c178
        refine wp_iconst (n := 191) (v := 0) dX3_looksForHolders_190 rfl (by decide) ?_
        refine wp_pI (n := 192) dX3_looksForHolders_191 rfl (pI_mono h (fun w191 h => ?_))
        refine wp_iinc (n := 195) (i := 3) (q := 3) (v := i3 + 1) (ls' := [(3, vI (i3 + 1)), (0, vR (some h0)), (1, vI i1), (2, vI i2)]) dX3_looksForHolders_192 rfl rfl rfl (Nat.le_of_ble_eq_true rfl) rfl ?_
        refine wp_goto (t := 151) dX3_looksForHolders_195 (by decide) ?_
        exact wp_sub [1, 2, 3, 0] rfl h
      · replace h := h.2 c178
        refine wp_aload_n (n := 182) (i := 0) (q := 0) dX3_looksForHolders_181 rfl rfl rfl ?_
        obtain ⟨x182, g182, h⟩ := h
        refine wp_gf (n := 185) dX3_looksForHolders_182 rfl fl_X3_25 g182 ?_
        refine wp_iload_n (n := 186) (i := 3) (q := 3) dX3_looksForHolders_185 rfl rfl rfl ?_
        obtain ⟨x186, g186, h⟩ := h
        refine wp_gI (n := 187) dX3_looksForHolders_186 rfl g186 ?_
        refine wp_goto (t := 191) dX3_looksForHolders_187 (by decide) ?_
        refine wp_pI (n := 192) dX3_looksForHolders_191 rfl (pI_mono h (fun w191 h => ?_))
        refine wp_iinc (n := 195) (i := 3) (q := 3) (v := i3 + 1) (ls' := [(3, vI (i3 + 1)), (0, vR (some h0)), (1, vI i1), (2, vI i2)]) dX3_looksForHolders_192 rfl rfl rfl (Nat.le_of_ble_eq_true rfl) rfl ?_
        refine wp_goto (t := 151) dX3_looksForHolders_195 (by decide) ?_
        exact wp_sub [1, 2, 3, 0] rfl h
    · exact h.elim
set_option maxHeartbeats 1000000 in
theorem sg_X3_freedBy_0 {h0 : Nat} {i1 : Int32} {rc rs : Nat} {QR : Option aV → aW → Prop} {QX : String → aW → Prop} {w : aW} (h : wp (KX3_freedBy) rc rs QR QX 5 [(0, vR (some h0)), (1, vI i1), (2, vL 0), (4, vI 0)] [] w) : wp (KX3_freedBy) rc rs QR QX 0 [(0, vR (some h0)), (1, vI i1)] [] w := by
  refine wp_lconst (n := 1) (v := 0) dX3_freedBy_0 rfl (by decide) ?_
  refine wp_lstore_n (n := 2) (i := 2) (ls' := [(2, vL 0), (0, vR (some h0)), (1, vI i1)]) dX3_freedBy_1 rfl rfl (Nat.le_of_ble_eq_true rfl) rfl ?_
  refine wp_iconst (n := 3) (v := 0) dX3_freedBy_2 rfl (by decide) ?_
  refine wp_istore (n := 5) (i := 4) (ls' := [(4, vI 0), (2, vL 0), (0, vR (some h0)), (1, vI i1)]) dX3_freedBy_3 rfl (Nat.le_of_ble_eq_true rfl) rfl ?_
  exact wp_sub [2, 3, 1, 0] rfl h
set_option maxHeartbeats 1000000 in
theorem sg_X3_freedBy_5 {h0 : Nat} {i1 : Int32} {l2 : Int64} {i4 : Int32} {rc rs : Nat} {QR : Option aV → aW → Prop} {QX : String → aW → Prop} {w : aW} (h : (96 ≤ i4 → QR (some (vL l2)) w) ∧ (¬ 96 ≤ i4 → ∃ x14 : Nat, gf w h0 [3] 8 (vR (some x14)) ∧ ∃ x19 : Int32, gI w x14 i4 x19 ∧ (x19 = 0 → wp (KX3_freedBy) rc rs QR QX 5 [(0, vR (some h0)), (1, vI i1), (2, vL (l2 + 0)), (4, vI (i4 + 1))] [] w) ∧ (¬ x19 = 0 → ∃ x24 : Nat, gf w h0 [3] 8 (vR (some x24)) ∧ ∃ x29 : Int32, gI w x24 i4 x29 ∧ (¬ (x29 &&& (i1 ^^^ (-1))) = 0 → wp (KX3_freedBy) rc rs QR QX 5 [(0, vR (some h0)), (1, vI i1), (2, vL (l2 + 0)), (4, vI (i4 + 1))] [] w) ∧ ((x29 &&& (i1 ^^^ (-1))) = 0 → ∃ x38 : Nat, gf w h0 [3] 1 (vR (some x38)) ∧ ∃ x47 : Int32, gI w x38 (362 + i4) x47 ∧ wp (KX3_freedBy) rc rs QR QX 5 [(0, vR (some h0)), (1, vI i1), (2, vL (l2 + (Int32.toInt64 x47))), (4, vI (i4 + 1))] [] w)))) : wp (KX3_freedBy) rc rs QR QX 5 [(0, vR (some h0)), (1, vI i1), (2, vL l2), (4, vI i4)] [] w := by
  refine wp_iload (n := 7) (i := 4) (q := 3) dX3_freedBy_5 rfl rfl ?_
  refine wp_bipush (n := 9) (v := 96) dX3_freedBy_7 rfl (by decide) ?_
  refine wp_icmp_ge (n := 12) (t := 61) dX3_freedBy_9 rfl (by decide) (fun c9 => ?_) (fun c9 => ?_)
  · replace h := h.1 c9
    refine wp_lload_n (n := 62) (i := 2) (q := 2) dX3_freedBy_61 rfl rfl rfl ?_
    exact wp_lreturn dX3_freedBy_62 rfl h
  · replace h := h.2 c9
    refine wp_lload_n (n := 13) (i := 2) (q := 2) dX3_freedBy_12 rfl rfl rfl ?_
    refine wp_aload_n (n := 14) (i := 0) (q := 0) dX3_freedBy_13 rfl rfl rfl ?_
    obtain ⟨x14, g14, h⟩ := h
    refine wp_gf (n := 17) dX3_freedBy_14 rfl fl_X3_25 g14 ?_
    refine wp_iload (n := 19) (i := 4) (q := 3) dX3_freedBy_17 rfl rfl ?_
    obtain ⟨x19, g19, h⟩ := h
    refine wp_gI (n := 20) dX3_freedBy_19 rfl g19 ?_
    refine wp_if_eq (n := 23) (t := 52) dX3_freedBy_20 rfl (by decide) (fun c20 => ?_) (fun c20 => ?_)
    · replace h := h.1 c20
      refine wp_lconst (n := 53) (v := 0) dX3_freedBy_52 rfl (by decide) ?_
      refine wp_ladd (n := 54) dX3_freedBy_53 rfl ?_
      refine wp_lstore_n (n := 55) (i := 2) (ls' := [(2, vL (l2 + 0)), (0, vR (some h0)), (1, vI i1), (4, vI i4)]) dX3_freedBy_54 rfl rfl (Nat.le_of_ble_eq_true rfl) rfl ?_
      refine wp_iinc (n := 58) (i := 4) (q := 3) (v := i4 + 1) (ls' := [(4, vI (i4 + 1)), (2, vL (l2 + 0)), (0, vR (some h0)), (1, vI i1)]) dX3_freedBy_55 rfl rfl rfl (Nat.le_of_ble_eq_true rfl) rfl ?_
      refine wp_goto (t := 5) dX3_freedBy_58 (by decide) ?_
      exact wp_sub [2, 3, 1, 0] rfl h
    · replace h := h.2 c20
      refine wp_aload_n (n := 24) (i := 0) (q := 0) dX3_freedBy_23 rfl rfl rfl ?_
      obtain ⟨x24, g24, h⟩ := h
      refine wp_gf (n := 27) dX3_freedBy_24 rfl fl_X3_25 g24 ?_
      refine wp_iload (n := 29) (i := 4) (q := 3) dX3_freedBy_27 rfl rfl ?_
      obtain ⟨x29, g29, h⟩ := h
      refine wp_gI (n := 30) dX3_freedBy_29 rfl g29 ?_
      refine wp_iload_n (n := 31) (i := 1) (q := 1) dX3_freedBy_30 rfl rfl rfl ?_
      refine wp_iconst (n := 32) (v := (-1)) dX3_freedBy_31 rfl (by decide) ?_
      refine wp_ixor (n := 33) dX3_freedBy_32 rfl ?_
      refine wp_iand (n := 34) dX3_freedBy_33 rfl ?_
      refine wp_if_ne (n := 37) (t := 52) dX3_freedBy_34 rfl (by decide) (fun c34 => ?_) (fun c34 => ?_)
      · replace h := h.1 c34
        refine wp_lconst (n := 53) (v := 0) dX3_freedBy_52 rfl (by decide) ?_
        refine wp_ladd (n := 54) dX3_freedBy_53 rfl ?_
        refine wp_lstore_n (n := 55) (i := 2) (ls' := [(2, vL (l2 + 0)), (0, vR (some h0)), (1, vI i1), (4, vI i4)]) dX3_freedBy_54 rfl rfl (Nat.le_of_ble_eq_true rfl) rfl ?_
        refine wp_iinc (n := 58) (i := 4) (q := 3) (v := i4 + 1) (ls' := [(4, vI (i4 + 1)), (2, vL (l2 + 0)), (0, vR (some h0)), (1, vI i1)]) dX3_freedBy_55 rfl rfl rfl (Nat.le_of_ble_eq_true rfl) rfl ?_
        refine wp_goto (t := 5) dX3_freedBy_58 (by decide) ?_
        exact wp_sub [2, 3, 1, 0] rfl h
      · replace h := h.2 c34
        refine wp_aload_n (n := 38) (i := 0) (q := 0) dX3_freedBy_37 rfl rfl rfl ?_
        obtain ⟨x38, g38, h⟩ := h
        refine wp_gf (n := 41) dX3_freedBy_38 rfl fl_X3_7 g38 ?_
        refine wp_sipush (n := 44) (v := 362) dX3_freedBy_41 rfl (by decide) ?_
        refine wp_iload (n := 46) (i := 4) (q := 3) dX3_freedBy_44 rfl rfl ?_
        refine wp_iadd (n := 47) dX3_freedBy_46 rfl ?_
        obtain ⟨x47, g47, h⟩ := h
        refine wp_gI (n := 48) dX3_freedBy_47 rfl g47 ?_
        refine wp_i2l (n := 49) dX3_freedBy_48 rfl ?_
        refine wp_goto (t := 53) dX3_freedBy_49 (by decide) ?_
        refine wp_ladd (n := 54) dX3_freedBy_53 rfl ?_
        refine wp_lstore_n (n := 55) (i := 2) (ls' := [(2, vL (l2 + (Int32.toInt64 x47))), (0, vR (some h0)), (1, vI i1), (4, vI i4)]) dX3_freedBy_54 rfl rfl (Nat.le_of_ble_eq_true rfl) rfl ?_
        refine wp_iinc (n := 58) (i := 4) (q := 3) (v := i4 + 1) (ls' := [(4, vI (i4 + 1)), (2, vL (l2 + (Int32.toInt64 x47))), (0, vR (some h0)), (1, vI i1)]) dX3_freedBy_55 rfl rfl rfl (Nat.le_of_ble_eq_true rfl) rfl ?_
        refine wp_goto (t := 5) dX3_freedBy_58 (by decide) ?_
        exact wp_sub [2, 3, 1, 0] rfl h
set_option maxHeartbeats 1000000 in
theorem sg_X3_fewest_0 {h0 : Nat} {i1 : Int32} {l2 : Int64} {rc rs : Nat} {QR : Option aV → aW → Prop} {QX : String → aW → Prop} {w : aW} (h : isO w h0 3 ∧ ct (KX3_asked) 0 0 [vR (some h0), vI i1, vI 0] w (fun v3 w3 => ∃ x3 : Int32, v3 = some (vI x3) ∧ (x3 = 0 → (0 < l2 → isO w3 h0 3 ∧ ct (KX3_looksForOwned) 0 0 [vR (some h0), vI i1] w3 (fun v26 w26 => v26 = none ∧ isO w26 h0 3 ∧ ct (KX3_looksForHolders) 0 0 [vR (some h0)] w26 (fun v30 w30 => ∃ x30 : Int32, v30 = some (vI x30) ∧ wp (KX3_fewest) rc rs QR QX 41 [(0, vR (some h0)), (1, vI i1), (2, vL l2), (4, vI x3), (5, vI x30), (6, vI (-1)), (7, vI 0)] [] w30) (fun E30 w30 => False)) (fun E26 w26 => False)) ∧ (¬ 0 < l2 → QR (some (vI 0)) w3)) ∧ (¬ x3 = 0 → QR (some (vI x3)) w3)) (fun E3 w3 => False)) : wp (KX3_fewest) rc rs QR QX 0 [(0, vR (some h0)), (1, vI i1), (2, vL l2)] [] w := by
  refine wp_aload_n (n := 1) (i := 0) (q := 0) dX3_fewest_0 rfl rfl rfl ?_
  refine wp_iload_n (n := 2) (i := 1) (q := 1) dX3_fewest_1 rfl rfl rfl ?_
  refine wp_iconst (n := 3) (v := 0) dX3_fewest_2 rfl (by decide) ?_
  obtain ⟨⟨fs3, o3⟩, h⟩ := h
  refine wp_call (n := 6) (K' := KX3_asked) (rc' := rc) (rs' := rs) (aRun_V (K' := KX3_asked) (As := [vI i1, vI 0]) (rest := []) (b := h0) (c0 := .inr (3, fs3)) dX3_fewest_3 (aCal_of kf_X3_asked (Nat.le_of_ble_eq_true rfl)) q1092 q1094 qs53 ar_X3_asked o3 (by decide : 3 < 9) rfl (Nat.le_of_ble_eq_true rfl)) rfl (Nat.le_of_eq (Nat.zero_add _)) (Nat.le_of_eq (Nat.zero_add _)) (fun v3 w3 h => ?_) (fun E3 w3 h => ?_) h
  · obtain ⟨x3, rfl, h⟩ := h
    refine wp_istore (n := 8) (i := 4) (ls' := [(4, vI x3), (0, vR (some h0)), (1, vI i1), (2, vL l2)]) dX3_fewest_6 rfl (Nat.le_of_ble_eq_true rfl) rfl ?_
    refine wp_iload (n := 10) (i := 4) (q := 0) dX3_fewest_8 rfl rfl ?_
    refine wp_if_eq (n := 13) (t := 16) dX3_fewest_10 rfl (by decide) (fun c10 => ?_) (fun c10 => ?_)
    · replace h := h.1 c10
      refine wp_lload_n (n := 17) (i := 2) (q := 3) dX3_fewest_16 rfl rfl rfl ?_
      refine wp_lconst (n := 18) (v := 0) dX3_fewest_17 rfl (by decide) ?_
      refine wp_lcmp (n := 19) dX3_fewest_18 rfl ?_
      refine wp_if_gt (n := 22) (t := 24) dX3_fewest_19 rfl (by decide) (fun c19 => ?_) (fun c19 => ?_)
      · replace h := h.1 (lgc_gt.mp c19)
        refine wp_aload_n (n := 25) (i := 0) (q := 1) dX3_fewest_24 rfl rfl rfl ?_
        refine wp_iload_n (n := 26) (i := 1) (q := 2) dX3_fewest_25 rfl rfl rfl ?_
        obtain ⟨⟨fs26, o26⟩, h⟩ := h
        refine wp_call (n := 29) (K' := KX3_looksForOwned) (rc' := rc) (rs' := rs) (aRun_V (K' := KX3_looksForOwned) (As := [vI i1]) (rest := []) (b := h0) (c0 := .inr (3, fs26)) dX3_fewest_26 (aCal_of kf_X3_looksForOwned (Nat.le_of_ble_eq_true rfl)) q1277 q1279 qs77 ar_X3_looksForOwned o26 (by decide : 3 < 9) rfl (Nat.le_of_ble_eq_true rfl)) rfl (Nat.le_of_eq (Nat.zero_add _)) (Nat.le_of_eq (Nat.zero_add _)) (fun v26 w26 h => ?_) (fun E26 w26 h => ?_) h
        · obtain ⟨rfl, h⟩ := h
          refine wp_aload_n (n := 30) (i := 0) (q := 1) dX3_fewest_29 rfl rfl rfl ?_
          obtain ⟨⟨fs30, o30⟩, h⟩ := h
          refine wp_call (n := 33) (K' := KX3_looksForHolders) (rc' := rc) (rs' := rs) (aRun_V (K' := KX3_looksForHolders) (As := []) (rest := []) (b := h0) (c0 := .inr (3, fs30)) dX3_fewest_30 (aCal_of kf_X3_looksForHolders (Nat.le_of_ble_eq_true rfl)) q1281 q1283 qs78 ar_X3_looksForHolders o30 (by decide : 3 < 9) rfl (Nat.le_of_ble_eq_true rfl)) rfl (Nat.le_of_eq (Nat.zero_add _)) (Nat.le_of_eq (Nat.zero_add _)) (fun v30 w30 h => ?_) (fun E30 w30 h => ?_) h
          · obtain ⟨x30, rfl, h⟩ := h
            refine wp_istore (n := 35) (i := 5) (ls' := [(5, vI x30), (4, vI x3), (0, vR (some h0)), (1, vI i1), (2, vL l2)]) dX3_fewest_33 rfl (Nat.le_of_ble_eq_true rfl) rfl ?_
            refine wp_iconst (n := 36) (v := (-1)) dX3_fewest_35 rfl (by decide) ?_
            refine wp_istore (n := 38) (i := 6) (ls' := [(6, vI (-1)), (5, vI x30), (4, vI x3), (0, vR (some h0)), (1, vI i1), (2, vL l2)]) dX3_fewest_36 rfl (Nat.le_of_ble_eq_true rfl) rfl ?_
            refine wp_iconst (n := 39) (v := 0) dX3_fewest_38 rfl (by decide) ?_
            refine wp_istore (n := 41) (i := 7) (ls' := [(7, vI 0), (6, vI (-1)), (5, vI x30), (4, vI x3), (0, vR (some h0)), (1, vI i1), (2, vL l2)]) dX3_fewest_39 rfl (Nat.le_of_ble_eq_true rfl) rfl ?_
            exact wp_sub [4, 5, 6, 3, 2, 1, 0] rfl h
          · exact h.elim
        · exact h.elim
      · replace h := h.2 (fun z => c19 (lgc_gt.mpr z))
        refine wp_iconst (n := 23) (v := 0) dX3_fewest_22 rfl (by decide) ?_
        exact wp_ireturn dX3_fewest_23 rfl h
    · replace h := h.2 c10
      refine wp_iload (n := 15) (i := 4) (q := 0) dX3_fewest_13 rfl rfl ?_
      exact wp_ireturn dX3_fewest_15 rfl h
  · exact h.elim
set_option maxHeartbeats 1000000 in
theorem sg_X3_fewest_41 {h0 : Nat} {i1 : Int32} {l2 : Int64} {i4 : Int32} {i5 : Int32} {i6 : Int32} {i7 : Int32} {rc rs : Nat} {QR : Option aV → aW → Prop} {QX : String → aW → Prop} {w : aW} (h : (256 ≤ i7 → QR (some (vI i6)) w) ∧ (¬ 256 ≤ i7 → (i6 = (-1) → (¬ (i7 &&& (i5 ^^^ (-1))) = 0 → wp (KX3_fewest) rc rs QR QX 41 [(0, vR (some h0)), (1, vI i1), (2, vL l2), (4, vI i4), (5, vI i5), (6, vI i6), (7, vI (i7 + 1))] [] w) ∧ ((i7 &&& (i5 ^^^ (-1))) = 0 → isO w h0 3 ∧ ct (KX3_freedBy) 0 0 [vR (some h0), vI i7] w (fun v91 w91 => ∃ x91 : Int64, v91 = some (vL x91) ∧ (x91 < l2 → wp (KX3_fewest) rc rs QR QX 41 [(0, vR (some h0)), (1, vI i1), (2, vL l2), (4, vI i4), (5, vI i5), (6, vI i6), (7, vI (i7 + 1))] [] w91) ∧ (¬ x91 < l2 → isO w91 h0 3 ∧ ct (KX3_countOf) 0 0 [vR (some h0), vI i7] w91 (fun v102 w102 => ∃ x102 : Int32, v102 = some (vI x102) ∧ wp (KX3_fewest) rc rs QR QX 41 [(0, vR (some h0)), (1, vI i1), (2, vL l2), (4, vI i4), (5, vI i5), (6, vI x102), (7, vI (i7 + 1))] [] w102) (fun E102 w102 => False))) (fun E91 w91 => False))) ∧ (¬ i6 = (-1) → isO w h0 3 ∧ ct (KX3_countOf) 0 0 [vR (some h0), vI i7] w (fun v58 w58 => ∃ x58 : Int32, v58 = some (vI x58) ∧ (i6 ≤ x58 → (¬ (i7 &&& (i5 ^^^ (-1))) = 0 → wp (KX3_fewest) rc rs QR QX 41 [(0, vR (some h0)), (1, vI i1), (2, vL l2), (4, vI i4), (5, vI i5), (6, vI i6), (7, vI (i7 + 1))] [] w58) ∧ ((i7 &&& (i5 ^^^ (-1))) = 0 → wp (KX3_fewest) rc rs QR QX 41 [(0, vR (some h0)), (1, vI i1), (2, vL l2), (4, vI i4), (5, vI i5), (6, vI i6), (7, vI (i7 + 1))] [] w58)) ∧ (¬ i6 ≤ x58 → (¬ (i7 &&& (i5 ^^^ (-1))) = 0 → wp (KX3_fewest) rc rs QR QX 41 [(0, vR (some h0)), (1, vI i1), (2, vL l2), (4, vI i4), (5, vI i5), (6, vI i6), (7, vI (i7 + 1))] [] w58) ∧ ((i7 &&& (i5 ^^^ (-1))) = 0 → isO w58 h0 3 ∧ ct (KX3_freedBy) 0 0 [vR (some h0), vI i7] w58 (fun v91 w91 => ∃ x91 : Int64, v91 = some (vL x91) ∧ (x91 < l2 → wp (KX3_fewest) rc rs QR QX 41 [(0, vR (some h0)), (1, vI i1), (2, vL l2), (4, vI i4), (5, vI i5), (6, vI i6), (7, vI (i7 + 1))] [] w91) ∧ (¬ x91 < l2 → isO w91 h0 3 ∧ ct (KX3_countOf) 0 0 [vR (some h0), vI i7] w91 (fun v102 w102 => ∃ x102 : Int32, v102 = some (vI x102) ∧ wp (KX3_fewest) rc rs QR QX 41 [(0, vR (some h0)), (1, vI i1), (2, vL l2), (4, vI i4), (5, vI i5), (6, vI x102), (7, vI (i7 + 1))] [] w102) (fun E102 w102 => False))) (fun E91 w91 => False)))) (fun E58 w58 => False)))) : wp (KX3_fewest) rc rs QR QX 41 [(0, vR (some h0)), (1, vI i1), (2, vL l2), (4, vI i4), (5, vI i5), (6, vI i6), (7, vI i7)] [] w := by
  refine wp_iload (n := 43) (i := 7) (q := 6) dX3_fewest_41 rfl rfl ?_
  refine wp_sipush (n := 46) (v := 256) dX3_fewest_43 rfl (by decide) ?_
  refine wp_icmp_ge (n := 49) (t := 118) dX3_fewest_46 rfl (by decide) (fun c46 => ?_) (fun c46 => ?_)
  · replace h := h.1 c46
    refine wp_iload (n := 120) (i := 6) (q := 5) dX3_fewest_118 rfl rfl ?_
    exact wp_ireturn dX3_fewest_120 rfl h
  · replace h := h.2 c46
    refine wp_iload (n := 51) (i := 6) (q := 5) dX3_fewest_49 rfl rfl ?_
    refine wp_iconst (n := 52) (v := (-1)) dX3_fewest_51 rfl (by decide) ?_
    refine wp_icmp_eq (n := 55) (t := 66) dX3_fewest_52 rfl (by decide) (fun c52 => ?_) (fun c52 => ?_)
    · replace h := h.1 c52
      refine wp_iconst (n := 67) (v := 1) dX3_fewest_66 rfl (by decide) ?_
      refine wp_goto (t := 71) dX3_fewest_67 (by decide) ?_
      refine wp_istore (n := 73) (i := 8) (ls' := [(8, vI 1), (0, vR (some h0)), (1, vI i1), (2, vL l2), (4, vI i4), (5, vI i5), (6, vI i6), (7, vI i7)]) dX3_fewest_71 rfl (Nat.le_of_ble_eq_true rfl) rfl ?_
      refine wp_iload (n := 75) (i := 7) (q := 7) dX3_fewest_73 rfl rfl ?_
      refine wp_iload (n := 77) (i := 5) (q := 5) dX3_fewest_75 rfl rfl ?_
      refine wp_iconst (n := 78) (v := (-1)) dX3_fewest_77 rfl (by decide) ?_
      refine wp_ixor (n := 79) dX3_fewest_78 rfl ?_
      refine wp_iand (n := 80) dX3_fewest_79 rfl ?_
      refine wp_if_ne (n := 83) (t := 108) dX3_fewest_80 rfl (by decide) (fun c80 => ?_) (fun c80 => ?_)
      · replace h := h.1 c80
        refine wp_iload (n := 110) (i := 6) (q := 6) dX3_fewest_108 rfl rfl ?_
        refine wp_istore (n := 112) (i := 6) (ls' := [(6, vI i6), (8, vI 1), (0, vR (some h0)), (1, vI i1), (2, vL l2), (4, vI i4), (5, vI i5), (7, vI i7)]) dX3_fewest_110 rfl (Nat.le_of_ble_eq_true rfl) rfl ?_
        refine wp_iinc (n := 115) (i := 7) (q := 7) (v := i7 + 1) (ls' := [(7, vI (i7 + 1)), (6, vI i6), (8, vI 1), (0, vR (some h0)), (1, vI i1), (2, vL l2), (4, vI i4), (5, vI i5)]) dX3_fewest_112 rfl rfl rfl (Nat.le_of_ble_eq_true rfl) rfl ?_
        refine wp_goto (t := 41) dX3_fewest_115 (by decide) ?_
        exact wp_sub [3, 4, 5, 6, 7, 1, 0] rfl h
      · replace h := h.2 c80
        refine wp_iload (n := 85) (i := 8) (q := 0) dX3_fewest_83 rfl rfl ?_
        refine wp_if_eq (n := 88) (t := 108) dX3_fewest_85 rfl (by decide) (fun z => absurd z (by decide)) (fun _ => ?_)
        refine wp_aload_n (n := 89) (i := 0) (q := 1) dX3_fewest_88 rfl rfl rfl ?_
        refine wp_iload (n := 91) (i := 7) (q := 7) dX3_fewest_89 rfl rfl ?_
        obtain ⟨⟨fs91, o91⟩, h⟩ := h
        refine wp_call (n := 94) (K' := KX3_freedBy) (rc' := rc) (rs' := rs) (aRun_V (K' := KX3_freedBy) (As := [vI i7]) (rest := []) (b := h0) (c0 := .inr (3, fs91)) dX3_fewest_91 (aCal_of kf_X3_freedBy (Nat.le_of_ble_eq_true rfl)) q1293 q1295 qs81 ar_X3_freedBy o91 (by decide : 3 < 9) rfl (Nat.le_of_ble_eq_true rfl)) rfl (Nat.le_of_eq (Nat.zero_add _)) (Nat.le_of_eq (Nat.zero_add _)) (fun v91 w91 h => ?_) (fun E91 w91 h => ?_) h
        · obtain ⟨x91, rfl, h⟩ := h
          refine wp_lload_n (n := 95) (i := 2) (q := 3) dX3_fewest_94 rfl rfl rfl ?_
          refine wp_lcmp (n := 96) dX3_fewest_95 rfl ?_
          refine wp_if_lt (n := 99) (t := 108) dX3_fewest_96 rfl (by decide) (fun c96 => ?_) (fun c96 => ?_)
          · replace h := h.1 (lgc_lt.mp c96)
            refine wp_iload (n := 110) (i := 6) (q := 6) dX3_fewest_108 rfl rfl ?_
            refine wp_istore (n := 112) (i := 6) (ls' := [(6, vI i6), (8, vI 1), (0, vR (some h0)), (1, vI i1), (2, vL l2), (4, vI i4), (5, vI i5), (7, vI i7)]) dX3_fewest_110 rfl (Nat.le_of_ble_eq_true rfl) rfl ?_
            refine wp_iinc (n := 115) (i := 7) (q := 7) (v := i7 + 1) (ls' := [(7, vI (i7 + 1)), (6, vI i6), (8, vI 1), (0, vR (some h0)), (1, vI i1), (2, vL l2), (4, vI i4), (5, vI i5)]) dX3_fewest_112 rfl rfl rfl (Nat.le_of_ble_eq_true rfl) rfl ?_
            refine wp_goto (t := 41) dX3_fewest_115 (by decide) ?_
            exact wp_sub [3, 4, 5, 6, 7, 1, 0] rfl h
          · replace h := h.2 (fun z => c96 (lgc_lt.mpr z))
            refine wp_aload_n (n := 100) (i := 0) (q := 1) dX3_fewest_99 rfl rfl rfl ?_
            refine wp_iload (n := 102) (i := 7) (q := 7) dX3_fewest_100 rfl rfl ?_
            obtain ⟨⟨fs102, o102⟩, h⟩ := h
            refine wp_call (n := 105) (K' := KX3_countOf) (rc' := rc) (rs' := rs) (aRun_V (K' := KX3_countOf) (As := [vI i7]) (rest := []) (b := h0) (c0 := .inr (3, fs102)) dX3_fewest_102 (aCal_of kf_X3_countOf (Nat.le_of_ble_eq_true rfl)) q1289 q1291 qs80 ar_X3_countOf o102 (by decide : 3 < 9) rfl (Nat.le_of_ble_eq_true rfl)) rfl (Nat.le_of_eq (Nat.zero_add _)) (Nat.le_of_eq (Nat.zero_add _)) (fun v102 w102 h => ?_) (fun E102 w102 h => ?_) h
            · obtain ⟨x102, rfl, h⟩ := h
              refine wp_goto (t := 110) dX3_fewest_105 (by decide) ?_
              refine wp_istore (n := 112) (i := 6) (ls' := [(6, vI x102), (8, vI 1), (0, vR (some h0)), (1, vI i1), (2, vL l2), (4, vI i4), (5, vI i5), (7, vI i7)]) dX3_fewest_110 rfl (Nat.le_of_ble_eq_true rfl) rfl ?_
              refine wp_iinc (n := 115) (i := 7) (q := 7) (v := i7 + 1) (ls' := [(7, vI (i7 + 1)), (6, vI x102), (8, vI 1), (0, vR (some h0)), (1, vI i1), (2, vL l2), (4, vI i4), (5, vI i5)]) dX3_fewest_112 rfl rfl rfl (Nat.le_of_ble_eq_true rfl) rfl ?_
              refine wp_goto (t := 41) dX3_fewest_115 (by decide) ?_
              exact wp_sub [3, 4, 5, 6, 7, 1, 0] rfl h
            · exact h.elim
        · exact h.elim
    · replace h := h.2 c52
      refine wp_aload_n (n := 56) (i := 0) (q := 0) dX3_fewest_55 rfl rfl rfl ?_
      refine wp_iload (n := 58) (i := 7) (q := 6) dX3_fewest_56 rfl rfl ?_
      obtain ⟨⟨fs58, o58⟩, h⟩ := h
      refine wp_call (n := 61) (K' := KX3_countOf) (rc' := rc) (rs' := rs) (aRun_V (K' := KX3_countOf) (As := [vI i7]) (rest := []) (b := h0) (c0 := .inr (3, fs58)) dX3_fewest_58 (aCal_of kf_X3_countOf (Nat.le_of_ble_eq_true rfl)) q1289 q1291 qs80 ar_X3_countOf o58 (by decide : 3 < 9) rfl (Nat.le_of_ble_eq_true rfl)) rfl (Nat.le_of_eq (Nat.zero_add _)) (Nat.le_of_eq (Nat.zero_add _)) (fun v58 w58 h => ?_) (fun E58 w58 h => ?_) h
      · obtain ⟨x58, rfl, h⟩ := h
        refine wp_iload (n := 63) (i := 6) (q := 5) dX3_fewest_61 rfl rfl ?_
        refine wp_icmp_ge (n := 66) (t := 70) dX3_fewest_63 rfl (by decide) (fun c63 => ?_) (fun c63 => ?_)
        · replace h := h.1 c63
          refine wp_iconst (n := 71) (v := 0) dX3_fewest_70 rfl (by decide) ?_
          refine wp_istore (n := 73) (i := 8) (ls' := [(8, vI 0), (0, vR (some h0)), (1, vI i1), (2, vL l2), (4, vI i4), (5, vI i5), (6, vI i6), (7, vI i7)]) dX3_fewest_71 rfl (Nat.le_of_ble_eq_true rfl) rfl ?_
          refine wp_iload (n := 75) (i := 7) (q := 7) dX3_fewest_73 rfl rfl ?_
          refine wp_iload (n := 77) (i := 5) (q := 5) dX3_fewest_75 rfl rfl ?_
          refine wp_iconst (n := 78) (v := (-1)) dX3_fewest_77 rfl (by decide) ?_
          refine wp_ixor (n := 79) dX3_fewest_78 rfl ?_
          refine wp_iand (n := 80) dX3_fewest_79 rfl ?_
          refine wp_if_ne (n := 83) (t := 108) dX3_fewest_80 rfl (by decide) (fun c80 => ?_) (fun c80 => ?_)
          · replace h := h.1 c80
            refine wp_iload (n := 110) (i := 6) (q := 6) dX3_fewest_108 rfl rfl ?_
            refine wp_istore (n := 112) (i := 6) (ls' := [(6, vI i6), (8, vI 0), (0, vR (some h0)), (1, vI i1), (2, vL l2), (4, vI i4), (5, vI i5), (7, vI i7)]) dX3_fewest_110 rfl (Nat.le_of_ble_eq_true rfl) rfl ?_
            refine wp_iinc (n := 115) (i := 7) (q := 7) (v := i7 + 1) (ls' := [(7, vI (i7 + 1)), (6, vI i6), (8, vI 0), (0, vR (some h0)), (1, vI i1), (2, vL l2), (4, vI i4), (5, vI i5)]) dX3_fewest_112 rfl rfl rfl (Nat.le_of_ble_eq_true rfl) rfl ?_
            refine wp_goto (t := 41) dX3_fewest_115 (by decide) ?_
            exact wp_sub [3, 4, 5, 6, 7, 1, 0] rfl h
          · replace h := h.2 c80
            refine wp_iload (n := 85) (i := 8) (q := 0) dX3_fewest_83 rfl rfl ?_
            refine wp_if_eq (n := 88) (t := 108) dX3_fewest_85 rfl (by decide) (fun _ => ?_) (fun z => absurd z (by decide))
            refine wp_iload (n := 110) (i := 6) (q := 6) dX3_fewest_108 rfl rfl ?_
            refine wp_istore (n := 112) (i := 6) (ls' := [(6, vI i6), (8, vI 0), (0, vR (some h0)), (1, vI i1), (2, vL l2), (4, vI i4), (5, vI i5), (7, vI i7)]) dX3_fewest_110 rfl (Nat.le_of_ble_eq_true rfl) rfl ?_
            refine wp_iinc (n := 115) (i := 7) (q := 7) (v := i7 + 1) (ls' := [(7, vI (i7 + 1)), (6, vI i6), (8, vI 0), (0, vR (some h0)), (1, vI i1), (2, vL l2), (4, vI i4), (5, vI i5)]) dX3_fewest_112 rfl rfl rfl (Nat.le_of_ble_eq_true rfl) rfl ?_
            refine wp_goto (t := 41) dX3_fewest_115 (by decide) ?_
            exact wp_sub [3, 4, 5, 6, 7, 1, 0] rfl h
        · replace h := h.2 c63
          refine wp_iconst (n := 67) (v := 1) dX3_fewest_66 rfl (by decide) ?_
          refine wp_goto (t := 71) dX3_fewest_67 (by decide) ?_
          refine wp_istore (n := 73) (i := 8) (ls' := [(8, vI 1), (0, vR (some h0)), (1, vI i1), (2, vL l2), (4, vI i4), (5, vI i5), (6, vI i6), (7, vI i7)]) dX3_fewest_71 rfl (Nat.le_of_ble_eq_true rfl) rfl ?_
          refine wp_iload (n := 75) (i := 7) (q := 7) dX3_fewest_73 rfl rfl ?_
          refine wp_iload (n := 77) (i := 5) (q := 5) dX3_fewest_75 rfl rfl ?_
          refine wp_iconst (n := 78) (v := (-1)) dX3_fewest_77 rfl (by decide) ?_
          refine wp_ixor (n := 79) dX3_fewest_78 rfl ?_
          refine wp_iand (n := 80) dX3_fewest_79 rfl ?_
          refine wp_if_ne (n := 83) (t := 108) dX3_fewest_80 rfl (by decide) (fun c80 => ?_) (fun c80 => ?_)
          · replace h := h.1 c80
            refine wp_iload (n := 110) (i := 6) (q := 6) dX3_fewest_108 rfl rfl ?_
            refine wp_istore (n := 112) (i := 6) (ls' := [(6, vI i6), (8, vI 1), (0, vR (some h0)), (1, vI i1), (2, vL l2), (4, vI i4), (5, vI i5), (7, vI i7)]) dX3_fewest_110 rfl (Nat.le_of_ble_eq_true rfl) rfl ?_
            refine wp_iinc (n := 115) (i := 7) (q := 7) (v := i7 + 1) (ls' := [(7, vI (i7 + 1)), (6, vI i6), (8, vI 1), (0, vR (some h0)), (1, vI i1), (2, vL l2), (4, vI i4), (5, vI i5)]) dX3_fewest_112 rfl rfl rfl (Nat.le_of_ble_eq_true rfl) rfl ?_
            refine wp_goto (t := 41) dX3_fewest_115 (by decide) ?_
            exact wp_sub [3, 4, 5, 6, 7, 1, 0] rfl h
          · replace h := h.2 c80
            refine wp_iload (n := 85) (i := 8) (q := 0) dX3_fewest_83 rfl rfl ?_
            refine wp_if_eq (n := 88) (t := 108) dX3_fewest_85 rfl (by decide) (fun z => absurd z (by decide)) (fun _ => ?_)
            refine wp_aload_n (n := 89) (i := 0) (q := 1) dX3_fewest_88 rfl rfl rfl ?_
            refine wp_iload (n := 91) (i := 7) (q := 7) dX3_fewest_89 rfl rfl ?_
            obtain ⟨⟨fs91, o91⟩, h⟩ := h
            refine wp_call (n := 94) (K' := KX3_freedBy) (rc' := rc) (rs' := rs) (aRun_V (K' := KX3_freedBy) (As := [vI i7]) (rest := []) (b := h0) (c0 := .inr (3, fs91)) dX3_fewest_91 (aCal_of kf_X3_freedBy (Nat.le_of_ble_eq_true rfl)) q1293 q1295 qs81 ar_X3_freedBy o91 (by decide : 3 < 9) rfl (Nat.le_of_ble_eq_true rfl)) rfl (Nat.le_of_eq (Nat.zero_add _)) (Nat.le_of_eq (Nat.zero_add _)) (fun v91 w91 h => ?_) (fun E91 w91 h => ?_) h
            · obtain ⟨x91, rfl, h⟩ := h
              refine wp_lload_n (n := 95) (i := 2) (q := 3) dX3_fewest_94 rfl rfl rfl ?_
              refine wp_lcmp (n := 96) dX3_fewest_95 rfl ?_
              refine wp_if_lt (n := 99) (t := 108) dX3_fewest_96 rfl (by decide) (fun c96 => ?_) (fun c96 => ?_)
              · replace h := h.1 (lgc_lt.mp c96)
                refine wp_iload (n := 110) (i := 6) (q := 6) dX3_fewest_108 rfl rfl ?_
                refine wp_istore (n := 112) (i := 6) (ls' := [(6, vI i6), (8, vI 1), (0, vR (some h0)), (1, vI i1), (2, vL l2), (4, vI i4), (5, vI i5), (7, vI i7)]) dX3_fewest_110 rfl (Nat.le_of_ble_eq_true rfl) rfl ?_
                refine wp_iinc (n := 115) (i := 7) (q := 7) (v := i7 + 1) (ls' := [(7, vI (i7 + 1)), (6, vI i6), (8, vI 1), (0, vR (some h0)), (1, vI i1), (2, vL l2), (4, vI i4), (5, vI i5)]) dX3_fewest_112 rfl rfl rfl (Nat.le_of_ble_eq_true rfl) rfl ?_
                refine wp_goto (t := 41) dX3_fewest_115 (by decide) ?_
                exact wp_sub [3, 4, 5, 6, 7, 1, 0] rfl h
              · replace h := h.2 (fun z => c96 (lgc_lt.mpr z))
                refine wp_aload_n (n := 100) (i := 0) (q := 1) dX3_fewest_99 rfl rfl rfl ?_
                refine wp_iload (n := 102) (i := 7) (q := 7) dX3_fewest_100 rfl rfl ?_
                obtain ⟨⟨fs102, o102⟩, h⟩ := h
                refine wp_call (n := 105) (K' := KX3_countOf) (rc' := rc) (rs' := rs) (aRun_V (K' := KX3_countOf) (As := [vI i7]) (rest := []) (b := h0) (c0 := .inr (3, fs102)) dX3_fewest_102 (aCal_of kf_X3_countOf (Nat.le_of_ble_eq_true rfl)) q1289 q1291 qs80 ar_X3_countOf o102 (by decide : 3 < 9) rfl (Nat.le_of_ble_eq_true rfl)) rfl (Nat.le_of_eq (Nat.zero_add _)) (Nat.le_of_eq (Nat.zero_add _)) (fun v102 w102 h => ?_) (fun E102 w102 h => ?_) h
                · obtain ⟨x102, rfl, h⟩ := h
                  refine wp_goto (t := 110) dX3_fewest_105 (by decide) ?_
                  refine wp_istore (n := 112) (i := 6) (ls' := [(6, vI x102), (8, vI 1), (0, vR (some h0)), (1, vI i1), (2, vL l2), (4, vI i4), (5, vI i5), (7, vI i7)]) dX3_fewest_110 rfl (Nat.le_of_ble_eq_true rfl) rfl ?_
                  refine wp_iinc (n := 115) (i := 7) (q := 7) (v := i7 + 1) (ls' := [(7, vI (i7 + 1)), (6, vI x102), (8, vI 1), (0, vR (some h0)), (1, vI i1), (2, vL l2), (4, vI i4), (5, vI i5)]) dX3_fewest_112 rfl rfl rfl (Nat.le_of_ble_eq_true rfl) rfl ?_
                  refine wp_goto (t := 41) dX3_fewest_115 (by decide) ?_
                  exact wp_sub [3, 4, 5, 6, 7, 1, 0] rfl h
                · exact h.elim
            · exact h.elim
      · exact h.elim
set_option maxHeartbeats 1000000 in
theorem sg_X3_heldMany_0 {h0 : Nat} {i1 : Int32} {rc rs : Nat} {QR : Option aV → aW → Prop} {QX : String → aW → Prop} {w : aW} (h : wp (KX3_heldMany) rc rs QR QX 4 [(0, vR (some h0)), (1, vI i1), (2, vI 0), (3, vI 0)] [] w) : wp (KX3_heldMany) rc rs QR QX 0 [(0, vR (some h0)), (1, vI i1)] [] w := by
  refine wp_iconst (n := 1) (v := 0) dX3_heldMany_0 rfl (by decide) ?_
  refine wp_istore_n (n := 2) (i := 2) (ls' := [(2, vI 0), (0, vR (some h0)), (1, vI i1)]) dX3_heldMany_1 rfl rfl (Nat.le_of_ble_eq_true rfl) rfl ?_
  refine wp_iconst (n := 3) (v := 0) dX3_heldMany_2 rfl (by decide) ?_
  refine wp_istore_n (n := 4) (i := 3) (ls' := [(3, vI 0), (2, vI 0), (0, vR (some h0)), (1, vI i1)]) dX3_heldMany_3 rfl rfl (Nat.le_of_ble_eq_true rfl) rfl ?_
  exact wp_sub [2, 3, 1, 0] rfl h
set_option maxHeartbeats 1000000 in
theorem sg_X3_heldMany_4 {h0 : Nat} {i1 : Int32} {i2 : Int32} {i3 : Int32} {rc rs : Nat} {QR : Option aV → aW → Prop} {QX : String → aW → Prop} {w : aW} (h : (12 ≤ i3 → QR (some (vI i2)) w) ∧ (¬ 12 ≤ i3 → isO w h0 3 ∧ ct (KX3_hasSlots) 0 0 [vR (some h0), vI i1] w (fun v13 w13 => ∃ x13 : Int32, v13 = some (vI x13) ∧ (x13 = 0 → wp (KX3_heldMany) rc rs QR QX 4 [(0, vR (some h0)), (1, vI i1), (2, vI (i2 + 0)), (3, vI (i3 + 1))] [] w13) ∧ (¬ x13 = 0 → ∃ x20 : Nat, gf w13 h0 [3] 1 (vR (some x20)) ∧ ∃ x32 : Int32, gI w13 x20 ((122 + (12 * i1)) + i3) x32 ∧ (x32 = (-1) → wp (KX3_heldMany) rc rs QR QX 4 [(0, vR (some h0)), (1, vI i1), (2, vI (i2 + 0)), (3, vI (i3 + 1))] [] w13) ∧ (¬ x32 = (-1) → wp (KX3_heldMany) rc rs QR QX 4 [(0, vR (some h0)), (1, vI i1), (2, vI (i2 + 1)), (3, vI (i3 + 1))] [] w13))) (fun E13 w13 => False))) : wp (KX3_heldMany) rc rs QR QX 4 [(0, vR (some h0)), (1, vI i1), (2, vI i2), (3, vI i3)] [] w := by
  refine wp_iload_n (n := 5) (i := 3) (q := 3) dX3_heldMany_4 rfl rfl rfl ?_
  refine wp_bipush (n := 7) (v := 12) dX3_heldMany_5 rfl (by decide) ?_
  refine wp_icmp_ge (n := 10) (t := 50) dX3_heldMany_7 rfl (by decide) (fun c7 => ?_) (fun c7 => ?_)
  · replace h := h.1 c7
    refine wp_iload_n (n := 51) (i := 2) (q := 2) dX3_heldMany_50 rfl rfl rfl ?_
    exact wp_ireturn dX3_heldMany_51 rfl h
  · replace h := h.2 c7
    refine wp_iload_n (n := 11) (i := 2) (q := 2) dX3_heldMany_10 rfl rfl rfl ?_
    refine wp_aload_n (n := 12) (i := 0) (q := 0) dX3_heldMany_11 rfl rfl rfl ?_
    refine wp_iload_n (n := 13) (i := 1) (q := 1) dX3_heldMany_12 rfl rfl rfl ?_
    obtain ⟨⟨fs13, o13⟩, h⟩ := h
    refine wp_call (n := 16) (K' := KX3_hasSlots) (rc' := rc) (rs' := rs) (aRun_V (K' := KX3_hasSlots) (As := [vI i1]) (rest := [vI i2]) (b := h0) (c0 := .inr (3, fs13)) dX3_heldMany_13 (aCal_of kf_X3_hasSlots (Nat.le_of_ble_eq_true rfl)) q1131 q1133 qs62 ar_X3_hasSlots o13 (by decide : 3 < 9) rfl (Nat.le_of_ble_eq_true rfl)) rfl (Nat.le_of_eq (Nat.zero_add _)) (Nat.le_of_eq (Nat.zero_add _)) (fun v13 w13 h => ?_) (fun E13 w13 h => ?_) h
    · obtain ⟨x13, rfl, h⟩ := h
      refine wp_if_eq (n := 19) (t := 41) dX3_heldMany_16 rfl (by decide) (fun c16 => ?_) (fun c16 => ?_)
      · replace h := h.1 c16
        refine wp_iconst (n := 42) (v := 0) dX3_heldMany_41 rfl (by decide) ?_
        refine wp_iadd (n := 43) dX3_heldMany_42 rfl ?_
        refine wp_istore_n (n := 44) (i := 2) (ls' := [(2, vI (i2 + 0)), (0, vR (some h0)), (1, vI i1), (3, vI i3)]) dX3_heldMany_43 rfl rfl (Nat.le_of_ble_eq_true rfl) rfl ?_
        refine wp_iinc (n := 47) (i := 3) (q := 3) (v := i3 + 1) (ls' := [(3, vI (i3 + 1)), (2, vI (i2 + 0)), (0, vR (some h0)), (1, vI i1)]) dX3_heldMany_44 rfl rfl rfl (Nat.le_of_ble_eq_true rfl) rfl ?_
        refine wp_goto (t := 4) dX3_heldMany_47 (by decide) ?_
        exact wp_sub [2, 3, 1, 0] rfl h
      · replace h := h.2 c16
        refine wp_aload_n (n := 20) (i := 0) (q := 0) dX3_heldMany_19 rfl rfl rfl ?_
        obtain ⟨x20, g20, h⟩ := h
        refine wp_gf (n := 23) dX3_heldMany_20 rfl fl_X3_7 g20 ?_
        refine wp_bipush (n := 25) (v := 122) dX3_heldMany_23 rfl (by decide) ?_
        refine wp_bipush (n := 27) (v := 12) dX3_heldMany_25 rfl (by decide) ?_
        refine wp_iload_n (n := 28) (i := 1) (q := 1) dX3_heldMany_27 rfl rfl rfl ?_
        refine wp_imul (n := 29) dX3_heldMany_28 rfl ?_
        refine wp_iadd (n := 30) dX3_heldMany_29 rfl ?_
        refine wp_iload_n (n := 31) (i := 3) (q := 3) dX3_heldMany_30 rfl rfl rfl ?_
        refine wp_iadd (n := 32) dX3_heldMany_31 rfl ?_
        obtain ⟨x32, g32, h⟩ := h
        refine wp_gI (n := 33) dX3_heldMany_32 rfl g32 ?_
        refine wp_iconst (n := 34) (v := (-1)) dX3_heldMany_33 rfl (by decide) ?_
        refine wp_icmp_eq (n := 37) (t := 41) dX3_heldMany_34 rfl (by decide) (fun c34 => ?_) (fun c34 => ?_)
        · replace h := h.1 c34
          refine wp_iconst (n := 42) (v := 0) dX3_heldMany_41 rfl (by decide) ?_
          refine wp_iadd (n := 43) dX3_heldMany_42 rfl ?_
          refine wp_istore_n (n := 44) (i := 2) (ls' := [(2, vI (i2 + 0)), (0, vR (some h0)), (1, vI i1), (3, vI i3)]) dX3_heldMany_43 rfl rfl (Nat.le_of_ble_eq_true rfl) rfl ?_
          refine wp_iinc (n := 47) (i := 3) (q := 3) (v := i3 + 1) (ls' := [(3, vI (i3 + 1)), (2, vI (i2 + 0)), (0, vR (some h0)), (1, vI i1)]) dX3_heldMany_44 rfl rfl rfl (Nat.le_of_ble_eq_true rfl) rfl ?_
          refine wp_goto (t := 4) dX3_heldMany_47 (by decide) ?_
          exact wp_sub [2, 3, 1, 0] rfl h
        · replace h := h.2 c34
          refine wp_iconst (n := 38) (v := 1) dX3_heldMany_37 rfl (by decide) ?_
          refine wp_goto (t := 42) dX3_heldMany_38 (by decide) ?_
          refine wp_iadd (n := 43) dX3_heldMany_42 rfl ?_
          refine wp_istore_n (n := 44) (i := 2) (ls' := [(2, vI (i2 + 1)), (0, vR (some h0)), (1, vI i1), (3, vI i3)]) dX3_heldMany_43 rfl rfl (Nat.le_of_ble_eq_true rfl) rfl ?_
          refine wp_iinc (n := 47) (i := 3) (q := 3) (v := i3 + 1) (ls' := [(3, vI (i3 + 1)), (2, vI (i2 + 1)), (0, vR (some h0)), (1, vI i1)]) dX3_heldMany_44 rfl rfl rfl (Nat.le_of_ble_eq_true rfl) rfl ?_
          refine wp_goto (t := 4) dX3_heldMany_47 (by decide) ?_
          exact wp_sub [2, 3, 1, 0] rfl h
    · exact h.elim
set_option maxHeartbeats 1000000 in
theorem sg_X3_image_0 {h0 : Nat} {rc rs : Nat} {QR : Option aV → aW → Prop} {QX : String → aW → Prop} {w : aW} (h : wp (KX3_image) rc rs QR QX 2 [(0, vR (some h0)), (1, vI 0)] [] w) : wp (KX3_image) rc rs QR QX 0 [(0, vR (some h0))] [] w := by
  refine wp_iconst (n := 1) (v := 0) dX3_image_0 rfl (by decide) ?_
  refine wp_istore_n (n := 2) (i := 1) (ls' := [(1, vI 0), (0, vR (some h0))]) dX3_image_1 rfl rfl (Nat.le_of_ble_eq_true rfl) rfl ?_
  exact wp_sub [1, 0] rfl h
set_option maxHeartbeats 1000000 in
theorem sg_X3_image_2 {h0 : Nat} {i1 : Int32} {rc rs : Nat} {QR : Option aV → aW → Prop} {QX : String → aW → Prop} {w : aW} (h : (554 ≤ i1 → pf w h0 [3] 4 (vI 1) (fun w29 => isO w29 h0 3 ∧ ct (KX3_things) 0 0 [vR (some h0)] w29 (fun v33 w33 => ∃ x33 : Int32, v33 = some (vI x33) ∧ QR (some (vI x33)) w33) (fun E33 w33 => False))) ∧ (¬ 554 ≤ i1 → ∃ x10 : Nat, gf w h0 [3] 2 (vR (some x10)) ∧ ∃ x15 : Nat, gf w h0 [3] 1 (vR (some x15)) ∧ ∃ x19 : Int32, gI w x15 i1 x19 ∧ pI w x10 i1 x19 (fun w20 => wp (KX3_image) rc rs QR QX 2 [(0, vR (some h0)), (1, vI (i1 + 1))] [] w20))) : wp (KX3_image) rc rs QR QX 2 [(0, vR (some h0)), (1, vI i1)] [] w := by
  refine wp_iload_n (n := 3) (i := 1) (q := 1) dX3_image_2 rfl rfl rfl ?_
  refine wp_sipush (n := 6) (v := 554) dX3_image_3 rfl (by decide) ?_
  refine wp_icmp_ge (n := 9) (t := 27) dX3_image_6 rfl (by decide) (fun c6 => ?_) (fun c6 => ?_)
  · replace h := h.1 c6
    refine wp_aload_n (n := 28) (i := 0) (q := 0) dX3_image_27 rfl rfl rfl ?_
    refine wp_iconst (n := 29) (v := 1) dX3_image_28 rfl (by decide) ?_
    refine wp_pf (n := 32) dX3_image_29 rfl (pt_X3_213 _) (by decide) (by decide) (pf_mono h (fun w29 h => ?_))
    refine wp_aload_n (n := 33) (i := 0) (q := 0) dX3_image_32 rfl rfl rfl ?_
    obtain ⟨⟨fs33, o33⟩, h⟩ := h
    refine wp_call (n := 36) (K' := KX3_things) (rc' := rc) (rs' := rs) (aRun_V (K' := KX3_things) (As := []) (rest := []) (b := h0) (c0 := .inr (3, fs33)) dX3_image_33 (aCal_of kf_X3_things (Nat.le_of_ble_eq_true rfl)) q1359 q1361 qs86 ar_X3_things o33 (by decide : 3 < 9) rfl (Nat.le_of_ble_eq_true rfl)) rfl (Nat.le_of_eq (Nat.zero_add _)) (Nat.le_of_eq (Nat.zero_add _)) (fun v33 w33 h => ?_) (fun E33 w33 h => ?_) h
    · obtain ⟨x33, rfl, h⟩ := h
      exact wp_ireturn dX3_image_36 rfl h
    · exact h.elim
  · replace h := h.2 c6
    refine wp_aload_n (n := 10) (i := 0) (q := 0) dX3_image_9 rfl rfl rfl ?_
    obtain ⟨x10, g10, h⟩ := h
    refine wp_gf (n := 13) dX3_image_10 rfl fl_X3_13 g10 ?_
    refine wp_iload_n (n := 14) (i := 1) (q := 1) dX3_image_13 rfl rfl rfl ?_
    refine wp_aload_n (n := 15) (i := 0) (q := 0) dX3_image_14 rfl rfl rfl ?_
    obtain ⟨x15, g15, h⟩ := h
    refine wp_gf (n := 18) dX3_image_15 rfl fl_X3_7 g15 ?_
    refine wp_iload_n (n := 19) (i := 1) (q := 1) dX3_image_18 rfl rfl rfl ?_
    obtain ⟨x19, g19, h⟩ := h
    refine wp_gI (n := 20) dX3_image_19 rfl g19 ?_
    refine wp_pI (n := 21) dX3_image_20 rfl (pI_mono h (fun w20 h => ?_))
    refine wp_iinc (n := 24) (i := 1) (q := 1) (v := i1 + 1) (ls' := [(1, vI (i1 + 1)), (0, vR (some h0))]) dX3_image_21 rfl rfl rfl (Nat.le_of_ble_eq_true rfl) rfl ?_
    refine wp_goto (t := 2) dX3_image_24 (by decide) ?_
    exact wp_sub [1, 0] rfl h
set_option maxHeartbeats 1000000 in
theorem sg_X3_init_0 {h0 : Nat} {rc rs : Nat} {QR : Option aV → aW → Prop} {QX : String → aW → Prop} {w : aW} (h : 1 ≤ rc ∧ 554 ≤ rs ∧ ∀ (a8 : Nat) (w8 : aW), w a8 = none → w8 = aup w a8 (.inl (0, 554, .inl (fun _ => 0))) → pf w8 h0 [3] 1 (vR (some a8)) (fun w10 => 1 ≤ (rc - 1) ∧ 554 ≤ (rs - 554) ∧ ∀ (a17 : Nat) (w17 : aW), w10 a17 = none → w17 = aup w10 a17 (.inl (0, 554, .inl (fun _ => 0))) → pf w17 h0 [3] 2 (vR (some a17)) (fun w19 => 1 ≤ (rc - 1 - 1) ∧ 554 ≤ (rs - 554 - 554) ∧ ∀ (a26 : Nat) (w26 : aW), w19 a26 = none → w26 = aup w19 a26 (.inl (0, 554, .inl (fun _ => 0))) → pf w26 h0 [3] 3 (vR (some a26)) (fun w28 => 1 ≤ (rc - 1 - 1 - 1) ∧ 96 ≤ (rs - 554 - 554 - 554) ∧ ∀ (a34 : Nat) (w34 : aW), w28 a34 = none → w34 = aup w28 a34 (.inl (0, 96, .inl (fun _ => 0))) → pf w34 h0 [3] 5 (vR (some a34)) (fun w36 => 1 ≤ (rc - 1 - 1 - 1 - 1) ∧ 20 ≤ (rs - 554 - 554 - 554 - 96) ∧ ∀ (a42 : Nat) (w42 : aW), w36 a42 = none → w42 = aup w36 a42 (.inl (0, 20, .inl (fun _ => 0))) → pf w42 h0 [3] 6 (vR (some a42)) (fun w44 => 1 ≤ (rc - 1 - 1 - 1 - 1 - 1) ∧ 96 ≤ (rs - 554 - 554 - 554 - 96 - 20) ∧ ∀ (a50 : Nat) (w50 : aW), w44 a50 = none → w50 = aup w44 a50 (.inl (0, 96, .inl (fun _ => 0))) → pf w50 h0 [3] 8 (vR (some a50)) (fun w52 => 1 ≤ (rc - 1 - 1 - 1 - 1 - 1 - 1) ∧ 4 ≤ (rs - 554 - 554 - 554 - 96 - 20 - 96) ∧ ∀ (a57 : Nat) (w57 : aW), w52 a57 = none → w57 = aup w52 a57 (.inl (0, 4, .inl (fun _ => 0))) → pf w57 h0 [3] 9 (vR (some a57)) (fun w59 => 1 ≤ (rc - 1 - 1 - 1 - 1 - 1 - 1 - 1) ∧ 4 ≤ (rs - 554 - 554 - 554 - 96 - 20 - 96 - 4) ∧ ∀ (a64 : Nat) (w64 : aW), w59 a64 = none → w64 = aup w59 a64 (.inl (0, 4, .inl (fun _ => 0))) → pf w64 h0 [3] 10 (vR (some a64)) (fun w66 => 1 ≤ (rc - 1 - 1 - 1 - 1 - 1 - 1 - 1 - 1) ∧ 160 ≤ (rs - 554 - 554 - 554 - 96 - 20 - 96 - 4 - 4) ∧ ∀ (a73 : Nat) (w73 : aW), w66 a73 = none → w73 = aup w66 a73 (.inl (1, 160, .inr (.inl (fun _ => 0)))) → pf w73 h0 [3] 11 (vR (some a73)) (fun w75 => ∃ x79 : Nat, gf w75 h0 [3] 1 (vR (some x79)) ∧ pI w75 x79 0 1 (fun w84 => wp (KX3_init) (rc - 1 - 1 - 1 - 1 - 1 - 1 - 1 - 1 - 1) (rs - 554 - 554 - 554 - 96 - 20 - 96 - 4 - 4 - 160) QR QX 87 [(0, vR (some h0)), (1, vI 0)] [] w84))))))))))) : wp (KX3_init) rc rs QR QX 0 [(0, vR (some h0))] [] w := by
  refine wp_aload_n (n := 1) (i := 0) (q := 0) dX3_init_0 rfl rfl rfl ?_
  refine wp_objInit (n := 4) dX3_init_1 rfl q1032 q115 q116 (Nat.le_of_ble_eq_true rfl) ?_
  refine wp_aload_n (n := 5) (i := 0) (q := 0) dX3_init_4 rfl rfl rfl ?_
  refine wp_sipush (n := 8) (v := 554) dX3_init_5 rfl (by decide) ?_
  obtain ⟨b1, b2, h⟩ := h
  refine wp_newi (n := 10) (N := 554) (rc' := rc - 1) (rs' := rs - 554) dX3_init_8 rfl (by decide) (by decide) (by decide) (by omega) (by omega) q132 (fun a8 f8 => ?_)
  obtain ⟨w8, ew8⟩ : ∃ z, z = aup w a8 (.inl (0, 554, .inl (fun _ => 0))) := ⟨_, rfl⟩
  rw [← ew8]
  replace h := h a8 w8 f8 ew8
  refine wp_pf (n := 13) dX3_init_10 rfl pti_X3_7 (nar_a _ _) (fit_a _ _) (pf_mono h (fun w10 h => ?_))
  refine wp_aload_n (n := 14) (i := 0) (q := 0) dX3_init_13 rfl rfl rfl ?_
  refine wp_sipush (n := 17) (v := 554) dX3_init_14 rfl (by decide) ?_
  obtain ⟨b1, b2, h⟩ := h
  refine wp_newi (n := 19) (N := 554) (rc' := rc - 1 - 1) (rs' := rs - 554 - 554) dX3_init_17 rfl (by decide) (by decide) (by decide) (by omega) (by omega) q132 (fun a17 f17 => ?_)
  obtain ⟨w17, ew17⟩ : ∃ z, z = aup w10 a17 (.inl (0, 554, .inl (fun _ => 0))) := ⟨_, rfl⟩
  rw [← ew17]
  replace h := h a17 w17 f17 ew17
  refine wp_pf (n := 22) dX3_init_19 rfl pti_X3_13 (nar_a _ _) (fit_a _ _) (pf_mono h (fun w19 h => ?_))
  refine wp_aload_n (n := 23) (i := 0) (q := 0) dX3_init_22 rfl rfl rfl ?_
  refine wp_sipush (n := 26) (v := 554) dX3_init_23 rfl (by decide) ?_
  obtain ⟨b1, b2, h⟩ := h
  refine wp_newi (n := 28) (N := 554) (rc' := rc - 1 - 1 - 1) (rs' := rs - 554 - 554 - 554) dX3_init_26 rfl (by decide) (by decide) (by decide) (by omega) (by omega) q132 (fun a26 f26 => ?_)
  obtain ⟨w26, ew26⟩ : ∃ z, z = aup w19 a26 (.inl (0, 554, .inl (fun _ => 0))) := ⟨_, rfl⟩
  rw [← ew26]
  replace h := h a26 w26 f26 ew26
  refine wp_pf (n := 31) dX3_init_28 rfl pti_X3_16 (nar_a _ _) (fit_a _ _) (pf_mono h (fun w28 h => ?_))
  refine wp_aload_n (n := 32) (i := 0) (q := 0) dX3_init_31 rfl rfl rfl ?_
  refine wp_bipush (n := 34) (v := 96) dX3_init_32 rfl (by decide) ?_
  obtain ⟨b1, b2, h⟩ := h
  refine wp_newi (n := 36) (N := 96) (rc' := rc - 1 - 1 - 1 - 1) (rs' := rs - 554 - 554 - 554 - 96) dX3_init_34 rfl (by decide) (by decide) (by decide) (by omega) (by omega) q132 (fun a34 f34 => ?_)
  obtain ⟨w34, ew34⟩ : ∃ z, z = aup w28 a34 (.inl (0, 96, .inl (fun _ => 0))) := ⟨_, rfl⟩
  rw [← ew34]
  replace h := h a34 w34 f34 ew34
  refine wp_pf (n := 39) dX3_init_36 rfl pti_X3_19 (nar_a _ _) (fit_a _ _) (pf_mono h (fun w36 h => ?_))
  refine wp_aload_n (n := 40) (i := 0) (q := 0) dX3_init_39 rfl rfl rfl ?_
  refine wp_bipush (n := 42) (v := 20) dX3_init_40 rfl (by decide) ?_
  obtain ⟨b1, b2, h⟩ := h
  refine wp_newi (n := 44) (N := 20) (rc' := rc - 1 - 1 - 1 - 1 - 1) (rs' := rs - 554 - 554 - 554 - 96 - 20) dX3_init_42 rfl (by decide) (by decide) (by decide) (by omega) (by omega) q132 (fun a42 f42 => ?_)
  obtain ⟨w42, ew42⟩ : ∃ z, z = aup w36 a42 (.inl (0, 20, .inl (fun _ => 0))) := ⟨_, rfl⟩
  rw [← ew42]
  replace h := h a42 w42 f42 ew42
  refine wp_pf (n := 47) dX3_init_44 rfl pti_X3_22 (nar_a _ _) (fit_a _ _) (pf_mono h (fun w44 h => ?_))
  refine wp_aload_n (n := 48) (i := 0) (q := 0) dX3_init_47 rfl rfl rfl ?_
  refine wp_bipush (n := 50) (v := 96) dX3_init_48 rfl (by decide) ?_
  obtain ⟨b1, b2, h⟩ := h
  refine wp_newi (n := 52) (N := 96) (rc' := rc - 1 - 1 - 1 - 1 - 1 - 1) (rs' := rs - 554 - 554 - 554 - 96 - 20 - 96) dX3_init_50 rfl (by decide) (by decide) (by decide) (by omega) (by omega) q132 (fun a50 f50 => ?_)
  obtain ⟨w50, ew50⟩ : ∃ z, z = aup w44 a50 (.inl (0, 96, .inl (fun _ => 0))) := ⟨_, rfl⟩
  rw [← ew50]
  replace h := h a50 w50 f50 ew50
  refine wp_pf (n := 55) dX3_init_52 rfl pti_X3_25 (nar_a _ _) (fit_a _ _) (pf_mono h (fun w52 h => ?_))
  refine wp_aload_n (n := 56) (i := 0) (q := 0) dX3_init_55 rfl rfl rfl ?_
  refine wp_iconst (n := 57) (v := 4) dX3_init_56 rfl (by decide) ?_
  obtain ⟨b1, b2, h⟩ := h
  refine wp_newi (n := 59) (N := 4) (rc' := rc - 1 - 1 - 1 - 1 - 1 - 1 - 1) (rs' := rs - 554 - 554 - 554 - 96 - 20 - 96 - 4) dX3_init_57 rfl (by decide) (by decide) (by decide) (by omega) (by omega) q132 (fun a57 f57 => ?_)
  obtain ⟨w57, ew57⟩ : ∃ z, z = aup w52 a57 (.inl (0, 4, .inl (fun _ => 0))) := ⟨_, rfl⟩
  rw [← ew57]
  replace h := h a57 w57 f57 ew57
  refine wp_pf (n := 62) dX3_init_59 rfl pti_X3_28 (nar_a _ _) (fit_a _ _) (pf_mono h (fun w59 h => ?_))
  refine wp_aload_n (n := 63) (i := 0) (q := 0) dX3_init_62 rfl rfl rfl ?_
  refine wp_iconst (n := 64) (v := 4) dX3_init_63 rfl (by decide) ?_
  obtain ⟨b1, b2, h⟩ := h
  refine wp_newi (n := 66) (N := 4) (rc' := rc - 1 - 1 - 1 - 1 - 1 - 1 - 1 - 1) (rs' := rs - 554 - 554 - 554 - 96 - 20 - 96 - 4 - 4) dX3_init_64 rfl (by decide) (by decide) (by decide) (by omega) (by omega) q132 (fun a64 f64 => ?_)
  obtain ⟨w64, ew64⟩ : ∃ z, z = aup w59 a64 (.inl (0, 4, .inl (fun _ => 0))) := ⟨_, rfl⟩
  rw [← ew64]
  replace h := h a64 w64 f64 ew64
  refine wp_pf (n := 69) dX3_init_66 rfl pti_X3_31 (nar_a _ _) (fit_a _ _) (pf_mono h (fun w66 h => ?_))
  refine wp_aload_n (n := 70) (i := 0) (q := 0) dX3_init_69 rfl rfl rfl ?_
  refine wp_sipush (n := 73) (v := 160) dX3_init_70 rfl (by decide) ?_
  obtain ⟨b1, b2, h⟩ := h
  refine wp_newl (n := 75) (N := 160) (rc' := rc - 1 - 1 - 1 - 1 - 1 - 1 - 1 - 1 - 1) (rs' := rs - 554 - 554 - 554 - 96 - 20 - 96 - 4 - 4 - 160) dX3_init_73 rfl (by decide) (by decide) (by decide) (by omega) (by omega) q921 (fun a73 f73 => ?_)
  obtain ⟨w73, ew73⟩ : ∃ z, z = aup w66 a73 (.inl (1, 160, .inr (.inl (fun _ => 0)))) := ⟨_, rfl⟩
  rw [← ew73]
  replace h := h a73 w73 f73 ew73
  refine wp_pf (n := 78) dX3_init_75 rfl pti_X3_34 (nar_a _ _) (fit_a _ _) (pf_mono h (fun w75 h => ?_))
  refine wp_aload_n (n := 79) (i := 0) (q := 0) dX3_init_78 rfl rfl rfl ?_
  obtain ⟨x79, g79, h⟩ := h
  refine wp_gf (n := 82) dX3_init_79 rfl fl_X3_7 g79 ?_
  refine wp_iconst (n := 83) (v := 0) dX3_init_82 rfl (by decide) ?_
  refine wp_iconst (n := 84) (v := 1) dX3_init_83 rfl (by decide) ?_
  refine wp_pI (n := 85) dX3_init_84 rfl (pI_mono h (fun w84 h => ?_))
  refine wp_iconst (n := 86) (v := 0) dX3_init_85 rfl (by decide) ?_
  refine wp_istore_n (n := 87) (i := 1) (ls' := [(1, vI 0), (0, vR (some h0))]) dX3_init_86 rfl rfl (Nat.le_of_ble_eq_true rfl) rfl ?_
  exact wp_sub [1, 0] rfl h
set_option maxHeartbeats 1000000 in
theorem sg_X3_init_87 {h0 : Nat} {i1 : Int32} {rc rs : Nat} {QR : Option aV → aW → Prop} {QX : String → aW → Prop} {w : aW} (h : (20 ≤ i1 → wp (KX3_init) rc rs QR QX 110 [(0, vR (some h0)), (1, vI 0)] [] w) ∧ (¬ 20 ≤ i1 → ∃ x94 : Nat, gf w h0 [3] 1 (vR (some x94)) ∧ pI w x94 (2 + i1) (-1) (fun w101 => wp (KX3_init) rc rs QR QX 87 [(0, vR (some h0)), (1, vI (i1 + 1))] [] w101))) : wp (KX3_init) rc rs QR QX 87 [(0, vR (some h0)), (1, vI i1)] [] w := by
  refine wp_iload_n (n := 88) (i := 1) (q := 1) dX3_init_87 rfl rfl rfl ?_
  refine wp_bipush (n := 90) (v := 20) dX3_init_88 rfl (by decide) ?_
  refine wp_icmp_ge (n := 93) (t := 108) dX3_init_90 rfl (by decide) (fun c90 => ?_) (fun c90 => ?_)
  · replace h := h.1 c90
    refine wp_iconst (n := 109) (v := 0) dX3_init_108 rfl (by decide) ?_
    refine wp_istore_n (n := 110) (i := 1) (ls' := [(1, vI 0), (0, vR (some h0))]) dX3_init_109 rfl rfl (Nat.le_of_ble_eq_true rfl) rfl ?_
    exact wp_sub [1, 0] rfl h
  · replace h := h.2 c90
    refine wp_aload_n (n := 94) (i := 0) (q := 0) dX3_init_93 rfl rfl rfl ?_
    obtain ⟨x94, g94, h⟩ := h
    refine wp_gf (n := 97) dX3_init_94 rfl fl_X3_7 g94 ?_
    refine wp_iconst (n := 98) (v := 2) dX3_init_97 rfl (by decide) ?_
    refine wp_iload_n (n := 99) (i := 1) (q := 1) dX3_init_98 rfl rfl rfl ?_
    refine wp_iadd (n := 100) dX3_init_99 rfl ?_
    refine wp_iconst (n := 101) (v := (-1)) dX3_init_100 rfl (by decide) ?_
    refine wp_pI (n := 102) dX3_init_101 rfl (pI_mono h (fun w101 h => ?_))
    refine wp_iinc (n := 105) (i := 1) (q := 1) (v := i1 + 1) (ls' := [(1, vI (i1 + 1)), (0, vR (some h0))]) dX3_init_102 rfl rfl rfl (Nat.le_of_ble_eq_true rfl) rfl ?_
    refine wp_goto (t := 87) dX3_init_105 (by decide) ?_
    exact wp_sub [1, 0] rfl h
set_option maxHeartbeats 1000000 in
theorem sg_X3_init_110 {h0 : Nat} {i1 : Int32} {rc rs : Nat} {QR : Option aV → aW → Prop} {QX : String → aW → Prop} {w : aW} (h : (4 ≤ i1 → QR none w) ∧ (¬ 4 ≤ i1 → ∃ x116 : Nat, gf w h0 [3] 9 (vR (some x116)) ∧ pI w x116 i1 (-1) (fun w121 => wp (KX3_init) rc rs QR QX 110 [(0, vR (some h0)), (1, vI (i1 + 1))] [] w121))) : wp (KX3_init) rc rs QR QX 110 [(0, vR (some h0)), (1, vI i1)] [] w := by
  refine wp_iload_n (n := 111) (i := 1) (q := 1) dX3_init_110 rfl rfl rfl ?_
  refine wp_iconst (n := 112) (v := 4) dX3_init_111 rfl (by decide) ?_
  refine wp_icmp_ge (n := 115) (t := 128) dX3_init_112 rfl (by decide) (fun c112 => ?_) (fun c112 => ?_)
  · replace h := h.1 c112
    exact wp_return dX3_init_128 rfl h
  · replace h := h.2 c112
    refine wp_aload_n (n := 116) (i := 0) (q := 0) dX3_init_115 rfl rfl rfl ?_
    obtain ⟨x116, g116, h⟩ := h
    refine wp_gf (n := 119) dX3_init_116 rfl fl_X3_28 g116 ?_
    refine wp_iload_n (n := 120) (i := 1) (q := 1) dX3_init_119 rfl rfl rfl ?_
    refine wp_iconst (n := 121) (v := (-1)) dX3_init_120 rfl (by decide) ?_
    refine wp_pI (n := 122) dX3_init_121 rfl (pI_mono h (fun w121 h => ?_))
    refine wp_iinc (n := 125) (i := 1) (q := 1) (v := i1 + 1) (ls' := [(1, vI (i1 + 1)), (0, vR (some h0))]) dX3_init_122 rfl rfl rfl (Nat.le_of_ble_eq_true rfl) rfl ?_
    refine wp_goto (t := 110) dX3_init_125 (by decide) ?_
    exact wp_sub [1, 0] rfl h
set_option maxHeartbeats 1000000 in
theorem sg_X3_item_0 {h0 : Nat} {i1 : Int32} {i2 : Int32} {rc rs : Nat} {QR : Option aV → aW → Prop} {QX : String → aW → Prop} {w : aW} (h : ct (KX3_isSheet) 0 0 [vI i1] w (fun v1 w1 => ∃ x1 : Int32, v1 = some (vI x1) ∧ (x1 = 0 → QR (some (vL (-4611686018427387904))) w1) ∧ (¬ x1 = 0 → ∃ x8 : Nat, gf w1 h0 [3] 9 (vR (some x8)) ∧ ∃ x12 : Int32, gI w1 x8 i1 x12 ∧ (x12 = (-1) → QR (some (vL (-4611686018427387904))) w1) ∧ (¬ x12 = (-1) → ∃ x20 : Nat, gf w1 h0 [3] 10 (vR (some x20)) ∧ ∃ x24 : Int32, gI w1 x20 i1 x24 ∧ ct (KX3_in) 0 0 [vI i2, vI 0, vI (x24 - 1)] w1 (fun v27 w27 => ∃ x27 : Int32, v27 = some (vI x27) ∧ (x27 = 0 → QR (some (vL (-4611686018427387904))) w27) ∧ (¬ x27 = 0 → ∃ x34 : Nat, gf w27 h0 [3] 11 (vR (some x34)) ∧ ∃ x43 : Int64, gL w27 x34 ((40 * i1) + i2) x43 ∧ QR (some (vL x43)) w27)) (fun E27 w27 => False)))) (fun E1 w1 => False)) : wp (KX3_item) rc rs QR QX 0 [(0, vR (some h0)), (1, vI i1), (2, vI i2)] [] w := by
  refine wp_iload_n (n := 1) (i := 1) (q := 1) dX3_item_0 rfl rfl rfl ?_
  refine wp_call (n := 4) (K' := KX3_isSheet) (rc' := rc) (rs' := rs) (aRun_S (K' := KX3_isSheet) (As := [vI i1]) (rest := []) dX3_item_1 (aCal_of kf_X3_isSheet (Nat.le_of_ble_eq_true rfl)) rfl q1309 q1310 ar_X3_isSheet rfl (Nat.le_of_ble_eq_true rfl)) rfl (Nat.le_of_eq (Nat.zero_add _)) (Nat.le_of_eq (Nat.zero_add _)) (fun v1 w1 h => ?_) (fun E1 w1 h => ?_) h
  · obtain ⟨x1, rfl, h⟩ := h
    refine wp_if_eq (n := 7) (t := 47) dX3_item_4 rfl (by decide) (fun c4 => ?_) (fun c4 => ?_)
    · replace h := h.1 c4
      refine wp_ldc2 (n := 50) dX3_item_47 rfl q1248 ?_
      exact wp_lreturn dX3_item_50 rfl h
    · replace h := h.2 c4
      refine wp_aload_n (n := 8) (i := 0) (q := 0) dX3_item_7 rfl rfl rfl ?_
      obtain ⟨x8, g8, h⟩ := h
      refine wp_gf (n := 11) dX3_item_8 rfl fl_X3_28 g8 ?_
      refine wp_iload_n (n := 12) (i := 1) (q := 1) dX3_item_11 rfl rfl rfl ?_
      obtain ⟨x12, g12, h⟩ := h
      refine wp_gI (n := 13) dX3_item_12 rfl g12 ?_
      refine wp_iconst (n := 14) (v := (-1)) dX3_item_13 rfl (by decide) ?_
      refine wp_icmp_eq (n := 17) (t := 47) dX3_item_14 rfl (by decide) (fun c14 => ?_) (fun c14 => ?_)
      · replace h := h.1 c14
        refine wp_ldc2 (n := 50) dX3_item_47 rfl q1248 ?_
        exact wp_lreturn dX3_item_50 rfl h
      · replace h := h.2 c14
        refine wp_iload_n (n := 18) (i := 2) (q := 2) dX3_item_17 rfl rfl rfl ?_
        refine wp_iconst (n := 19) (v := 0) dX3_item_18 rfl (by decide) ?_
        refine wp_aload_n (n := 20) (i := 0) (q := 0) dX3_item_19 rfl rfl rfl ?_
        obtain ⟨x20, g20, h⟩ := h
        refine wp_gf (n := 23) dX3_item_20 rfl fl_X3_31 g20 ?_
        refine wp_iload_n (n := 24) (i := 1) (q := 1) dX3_item_23 rfl rfl rfl ?_
        obtain ⟨x24, g24, h⟩ := h
        refine wp_gI (n := 25) dX3_item_24 rfl g24 ?_
        refine wp_iconst (n := 26) (v := 1) dX3_item_25 rfl (by decide) ?_
        refine wp_isub (n := 27) dX3_item_26 rfl ?_
        refine wp_call (n := 30) (K' := KX3_in) (rc' := rc) (rs' := rs) (aRun_S (K' := KX3_in) (As := [vI i2, vI 0, vI (x24 - 1)]) (rest := []) dX3_item_27 (aCal_of kf_X3_in (Nat.le_of_ble_eq_true rfl)) rfl q1077 q1078 ar_X3_in rfl (Nat.le_of_ble_eq_true rfl)) rfl (Nat.le_of_eq (Nat.zero_add _)) (Nat.le_of_eq (Nat.zero_add _)) (fun v27 w27 h => ?_) (fun E27 w27 h => ?_) h
        · obtain ⟨x27, rfl, h⟩ := h
          refine wp_if_eq (n := 33) (t := 47) dX3_item_30 rfl (by decide) (fun c30 => ?_) (fun c30 => ?_)
          · replace h := h.1 c30
            refine wp_ldc2 (n := 50) dX3_item_47 rfl q1248 ?_
            exact wp_lreturn dX3_item_50 rfl h
          · replace h := h.2 c30
            refine wp_aload_n (n := 34) (i := 0) (q := 0) dX3_item_33 rfl rfl rfl ?_
            obtain ⟨x34, g34, h⟩ := h
            refine wp_gf (n := 37) dX3_item_34 rfl fl_X3_34 g34 ?_
            refine wp_bipush (n := 39) (v := 40) dX3_item_37 rfl (by decide) ?_
            refine wp_iload_n (n := 40) (i := 1) (q := 1) dX3_item_39 rfl rfl rfl ?_
            refine wp_imul (n := 41) dX3_item_40 rfl ?_
            refine wp_iload_n (n := 42) (i := 2) (q := 2) dX3_item_41 rfl rfl rfl ?_
            refine wp_iadd (n := 43) dX3_item_42 rfl ?_
            obtain ⟨x43, g43, h⟩ := h
            refine wp_gL (n := 44) dX3_item_43 rfl g43 ?_
            refine wp_goto (t := 50) dX3_item_44 (by decide) ?_
            exact wp_lreturn dX3_item_50 rfl h
        · exact h.elim
  · exact h.elim
set_option maxHeartbeats 1000000 in
theorem sg_X3_mark_0 {h0 : Nat} {i1 : Int32} {rc rs : Nat} {QR : Option aV → aW → Prop} {QX : String → aW → Prop} {w : aW} (h : isO w h0 3 ∧ ct (KX3_asked) 0 0 [vR (some h0), vI i1, vI 2] w (fun v3 w3 => ∃ x3 : Int32, v3 = some (vI x3) ∧ (x3 = 0 → isO w3 h0 3 ∧ ct (KX3_newThing) 0 0 [vR (some h0)] w3 (fun v14 w14 => ∃ x14 : Int32, v14 = some (vI x14) ∧ (¬ x14 = 20 → ∃ x30 : Nat, gf w14 h0 [3] 1 (vR (some x30)) ∧ ∃ x37 : Int32, gI w14 x30 (22 + i1) x37 ∧ isO w14 h0 3 ∧ ct (KX3_comes) 0 0 [vR (some h0), vI 4, vI x37] w14 (fun v38 w38 => ∃ x38 : Int32, v38 = some (vI x38) ∧ QR (some (vI x38)) w38) (fun E38 w38 => False)) ∧ (x14 = 20 → QR (some (vI (-4))) w14)) (fun E14 w14 => False)) ∧ (¬ x3 = 0 → QR (some (vI x3)) w3)) (fun E3 w3 => False)) : wp (KX3_mark) rc rs QR QX 0 [(0, vR (some h0)), (1, vI i1)] [] w := by
  refine wp_aload_n (n := 1) (i := 0) (q := 0) dX3_mark_0 rfl rfl rfl ?_
  refine wp_iload_n (n := 2) (i := 1) (q := 1) dX3_mark_1 rfl rfl rfl ?_
  refine wp_iconst (n := 3) (v := 2) dX3_mark_2 rfl (by decide) ?_
  obtain ⟨⟨fs3, o3⟩, h⟩ := h
  refine wp_call (n := 6) (K' := KX3_asked) (rc' := rc) (rs' := rs) (aRun_V (K' := KX3_asked) (As := [vI i1, vI 2]) (rest := []) (b := h0) (c0 := .inr (3, fs3)) dX3_mark_3 (aCal_of kf_X3_asked (Nat.le_of_ble_eq_true rfl)) q1092 q1094 qs53 ar_X3_asked o3 (by decide : 3 < 9) rfl (Nat.le_of_ble_eq_true rfl)) rfl (Nat.le_of_eq (Nat.zero_add _)) (Nat.le_of_eq (Nat.zero_add _)) (fun v3 w3 h => ?_) (fun E3 w3 h => ?_) h
  · obtain ⟨x3, rfl, h⟩ := h
    refine wp_istore_n (n := 7) (i := 2) (ls' := [(2, vI x3), (0, vR (some h0)), (1, vI i1)]) dX3_mark_6 rfl rfl (Nat.le_of_ble_eq_true rfl) rfl ?_
    refine wp_iload_n (n := 8) (i := 2) (q := 0) dX3_mark_7 rfl rfl rfl ?_
    refine wp_if_eq (n := 11) (t := 13) dX3_mark_8 rfl (by decide) (fun c8 => ?_) (fun c8 => ?_)
    · replace h := h.1 c8
      refine wp_aload_n (n := 14) (i := 0) (q := 1) dX3_mark_13 rfl rfl rfl ?_
      obtain ⟨⟨fs14, o14⟩, h⟩ := h
      refine wp_call (n := 17) (K' := KX3_newThing) (rc' := rc) (rs' := rs) (aRun_V (K' := KX3_newThing) (As := []) (rest := []) (b := h0) (c0 := .inr (3, fs14)) dX3_mark_14 (aCal_of kf_X3_newThing (Nat.le_of_ble_eq_true rfl)) q1080 q1082 qs51 ar_X3_newThing o14 (by decide : 3 < 9) rfl (Nat.le_of_ble_eq_true rfl)) rfl (Nat.le_of_eq (Nat.zero_add _)) (Nat.le_of_eq (Nat.zero_add _)) (fun v14 w14 h => ?_) (fun E14 w14 h => ?_) h
      · obtain ⟨x14, rfl, h⟩ := h
        refine wp_bipush (n := 19) (v := 20) dX3_mark_17 rfl (by decide) ?_
        refine wp_icmp_ne (n := 22) (t := 27) dX3_mark_19 rfl (by decide) (fun c19 => ?_) (fun c19 => ?_)
        · replace h := h.1 c19
          refine wp_aload_n (n := 28) (i := 0) (q := 1) dX3_mark_27 rfl rfl rfl ?_
          refine wp_iconst (n := 29) (v := 4) dX3_mark_28 rfl (by decide) ?_
          refine wp_aload_n (n := 30) (i := 0) (q := 1) dX3_mark_29 rfl rfl rfl ?_
          obtain ⟨x30, g30, h⟩ := h
          refine wp_gf (n := 33) dX3_mark_30 rfl fl_X3_7 g30 ?_
          refine wp_bipush (n := 35) (v := 22) dX3_mark_33 rfl (by decide) ?_
          refine wp_iload_n (n := 36) (i := 1) (q := 2) dX3_mark_35 rfl rfl rfl ?_
          refine wp_iadd (n := 37) dX3_mark_36 rfl ?_
          obtain ⟨x37, g37, h⟩ := h
          refine wp_gI (n := 38) dX3_mark_37 rfl g37 ?_
          obtain ⟨⟨fs38, o38⟩, h⟩ := h
          refine wp_call (n := 41) (K' := KX3_comes) (rc' := rc) (rs' := rs) (aRun_V (K' := KX3_comes) (As := [vI 4, vI x37]) (rest := []) (b := h0) (c0 := .inr (3, fs38)) dX3_mark_38 (aCal_of kf_X3_comes (Nat.le_of_ble_eq_true rfl)) q1084 q1086 qs52 ar_X3_comes o38 (by decide : 3 < 9) rfl (Nat.le_of_ble_eq_true rfl)) rfl (Nat.le_of_eq (Nat.zero_add _)) (Nat.le_of_eq (Nat.zero_add _)) (fun v38 w38 h => ?_) (fun E38 w38 h => ?_) h
          · obtain ⟨x38, rfl, h⟩ := h
            exact wp_ireturn dX3_mark_41 rfl h
          · exact h.elim
        · replace h := h.2 c19
          refine wp_bipush (n := 24) (v := (-4)) dX3_mark_22 rfl (by decide) ?_
          refine wp_goto (t := 41) dX3_mark_24 (by decide) ?_
          exact wp_ireturn dX3_mark_41 rfl h
      · exact h.elim
    · replace h := h.2 c8
      refine wp_iload_n (n := 12) (i := 2) (q := 0) dX3_mark_11 rfl rfl rfl ?_
      exact wp_ireturn dX3_mark_12 rfl h
  · exact h.elim
set_option maxHeartbeats 1000000 in
theorem sg_X3_most_0 {h0 : Nat} {i1 : Int32} {i2 : Int32} {rc rs : Nat} {QR : Option aV → aW → Prop} {QX : String → aW → Prop} {w : aW} (h : ct (KX3_in) 0 0 [vI i2, vI 0, vI 8] w (fun v4 w4 => ∃ x4 : Int32, v4 = some (vI x4) ∧ (x4 = 0 → QR (some (vL (-4611686018427387904))) w4) ∧ (¬ x4 = 0 → isO w4 h0 3 ∧ ct (KX3_isFiles) 0 0 [vR (some h0), vI i1] w4 (fun v12 w12 => ∃ x12 : Int32, v12 = some (vI x12) ∧ (¬ x12 = 0 → isO w12 h0 3 ∧ ct (KX3_looksForOwned) 0 0 [vR (some h0), vI i1] w12 (fun v24 w24 => v24 = none ∧ isO w24 h0 3 ∧ ct (KX3_looksForHolders) 0 0 [vR (some h0)] w24 (fun v28 w28 => ∃ x28 : Int32, v28 = some (vI x28) ∧ wp (KX3_most) rc rs QR QX 38 [(0, vR (some h0)), (1, vI i1), (2, vI i2), (3, vI x28), (4, vL 0), (6, vI 0)] [] w28) (fun E28 w28 => False)) (fun E24 w24 => False)) ∧ (x12 = 0 → QR (some (vL (-4611686018427387904))) w12)) (fun E12 w12 => False))) (fun E4 w4 => False)) : wp (KX3_most) rc rs QR QX 0 [(0, vR (some h0)), (1, vI i1), (2, vI i2)] [] w := by
  refine wp_iload_n (n := 1) (i := 2) (q := 2) dX3_most_0 rfl rfl rfl ?_
  refine wp_iconst (n := 2) (v := 0) dX3_most_1 rfl (by decide) ?_
  refine wp_bipush (n := 4) (v := 8) dX3_most_2 rfl (by decide) ?_
  refine wp_call (n := 7) (K' := KX3_in) (rc' := rc) (rs' := rs) (aRun_S (K' := KX3_in) (As := [vI i2, vI 0, vI 8]) (rest := []) dX3_most_4 (aCal_of kf_X3_in (Nat.le_of_ble_eq_true rfl)) rfl q1077 q1078 ar_X3_in rfl (Nat.le_of_ble_eq_true rfl)) rfl (Nat.le_of_eq (Nat.zero_add _)) (Nat.le_of_eq (Nat.zero_add _)) (fun v4 w4 h => ?_) (fun E4 w4 h => ?_) h
  · obtain ⟨x4, rfl, h⟩ := h
    refine wp_if_eq (n := 10) (t := 18) dX3_most_7 rfl (by decide) (fun c7 => ?_) (fun c7 => ?_)
    · replace h := h.1 c7
      refine wp_ldc2 (n := 21) dX3_most_18 rfl q1248 ?_
      exact wp_lreturn dX3_most_21 rfl h
    · replace h := h.2 c7
      refine wp_aload_n (n := 11) (i := 0) (q := 0) dX3_most_10 rfl rfl rfl ?_
      refine wp_iload_n (n := 12) (i := 1) (q := 1) dX3_most_11 rfl rfl rfl ?_
      obtain ⟨⟨fs12, o12⟩, h⟩ := h
      refine wp_call (n := 15) (K' := KX3_isFiles) (rc' := rc) (rs' := rs) (aRun_V (K' := KX3_isFiles) (As := [vI i1]) (rest := []) (b := h0) (c0 := .inr (3, fs12)) dX3_most_12 (aCal_of kf_X3_isFiles (Nat.le_of_ble_eq_true rfl)) q1135 q1137 qs63 ar_X3_isFiles o12 (by decide : 3 < 9) rfl (Nat.le_of_ble_eq_true rfl)) rfl (Nat.le_of_eq (Nat.zero_add _)) (Nat.le_of_eq (Nat.zero_add _)) (fun v12 w12 h => ?_) (fun E12 w12 h => ?_) h
      · obtain ⟨x12, rfl, h⟩ := h
        refine wp_if_ne (n := 18) (t := 22) dX3_most_15 rfl (by decide) (fun c15 => ?_) (fun c15 => ?_)
        · replace h := h.1 c15
          refine wp_aload_n (n := 23) (i := 0) (q := 0) dX3_most_22 rfl rfl rfl ?_
          refine wp_iload_n (n := 24) (i := 1) (q := 1) dX3_most_23 rfl rfl rfl ?_
          obtain ⟨⟨fs24, o24⟩, h⟩ := h
          refine wp_call (n := 27) (K' := KX3_looksForOwned) (rc' := rc) (rs' := rs) (aRun_V (K' := KX3_looksForOwned) (As := [vI i1]) (rest := []) (b := h0) (c0 := .inr (3, fs24)) dX3_most_24 (aCal_of kf_X3_looksForOwned (Nat.le_of_ble_eq_true rfl)) q1277 q1279 qs77 ar_X3_looksForOwned o24 (by decide : 3 < 9) rfl (Nat.le_of_ble_eq_true rfl)) rfl (Nat.le_of_eq (Nat.zero_add _)) (Nat.le_of_eq (Nat.zero_add _)) (fun v24 w24 h => ?_) (fun E24 w24 h => ?_) h
          · obtain ⟨rfl, h⟩ := h
            refine wp_aload_n (n := 28) (i := 0) (q := 0) dX3_most_27 rfl rfl rfl ?_
            obtain ⟨⟨fs28, o28⟩, h⟩ := h
            refine wp_call (n := 31) (K' := KX3_looksForHolders) (rc' := rc) (rs' := rs) (aRun_V (K' := KX3_looksForHolders) (As := []) (rest := []) (b := h0) (c0 := .inr (3, fs28)) dX3_most_28 (aCal_of kf_X3_looksForHolders (Nat.le_of_ble_eq_true rfl)) q1281 q1283 qs78 ar_X3_looksForHolders o28 (by decide : 3 < 9) rfl (Nat.le_of_ble_eq_true rfl)) rfl (Nat.le_of_eq (Nat.zero_add _)) (Nat.le_of_eq (Nat.zero_add _)) (fun v28 w28 h => ?_) (fun E28 w28 h => ?_) h
            · obtain ⟨x28, rfl, h⟩ := h
              refine wp_istore_n (n := 32) (i := 3) (ls' := [(3, vI x28), (0, vR (some h0)), (1, vI i1), (2, vI i2)]) dX3_most_31 rfl rfl (Nat.le_of_ble_eq_true rfl) rfl ?_
              refine wp_lconst (n := 33) (v := 0) dX3_most_32 rfl (by decide) ?_
              refine wp_lstore (n := 35) (i := 4) (ls' := [(4, vL 0), (3, vI x28), (0, vR (some h0)), (1, vI i1), (2, vI i2)]) dX3_most_33 rfl (Nat.le_of_ble_eq_true rfl) rfl ?_
              refine wp_iconst (n := 36) (v := 0) dX3_most_35 rfl (by decide) ?_
              refine wp_istore (n := 38) (i := 6) (ls' := [(6, vI 0), (4, vL 0), (3, vI x28), (0, vR (some h0)), (1, vI i1), (2, vI i2)]) dX3_most_36 rfl (Nat.le_of_ble_eq_true rfl) rfl ?_
              exact wp_sub [3, 4, 5, 2, 1, 0] rfl h
            · exact h.elim
          · exact h.elim
        · replace h := h.2 c15
          refine wp_ldc2 (n := 21) dX3_most_18 rfl q1248 ?_
          exact wp_lreturn dX3_most_21 rfl h
      · exact h.elim
  · exact h.elim
set_option maxHeartbeats 1000000 in
theorem sg_X3_most_38 {h0 : Nat} {i1 : Int32} {i2 : Int32} {i3 : Int32} {l4 : Int64} {i6 : Int32} {rc rs : Nat} {QR : Option aV → aW → Prop} {QX : String → aW → Prop} {w : aW} (h : (256 ≤ i6 → QR (some (vL l4)) w) ∧ (¬ 256 ≤ i6 → (¬ (i6 &&& (i3 ^^^ (-1))) = 0 → wp (KX3_most) rc rs QR QX 38 [(0, vR (some h0)), (1, vI i1), (2, vI i2), (3, vI i3), (4, vL l4), (6, vI (i6 + 1))] [] w) ∧ ((i6 &&& (i3 ^^^ (-1))) = 0 → isO w h0 3 ∧ ct (KX3_countOf) 0 0 [vR (some h0), vI i6] w (fun v58 w58 => ∃ x58 : Int32, v58 = some (vI x58) ∧ (i2 < x58 → wp (KX3_most) rc rs QR QX 38 [(0, vR (some h0)), (1, vI i1), (2, vI i2), (3, vI i3), (4, vL l4), (6, vI (i6 + 1))] [] w58) ∧ (¬ i2 < x58 → isO w58 h0 3 ∧ ct (KX3_freedBy) 0 0 [vR (some h0), vI i6] w58 (fun v68 w68 => ∃ x68 : Int64, v68 = some (vL x68) ∧ (¬ l4 < x68 → wp (KX3_most) rc rs QR QX 38 [(0, vR (some h0)), (1, vI i1), (2, vI i2), (3, vI i3), (4, vL l4), (6, vI (i6 + 1))] [] w68) ∧ (l4 < x68 → wp (KX3_most) rc rs QR QX 38 [(0, vR (some h0)), (1, vI i1), (2, vI i2), (3, vI i3), (4, vL x68), (6, vI (i6 + 1))] [] w68)) (fun E68 w68 => False))) (fun E58 w58 => False)))) : wp (KX3_most) rc rs QR QX 38 [(0, vR (some h0)), (1, vI i1), (2, vI i2), (3, vI i3), (4, vL l4), (6, vI i6)] [] w := by
  refine wp_iload (n := 40) (i := 6) (q := 5) dX3_most_38 rfl rfl ?_
  refine wp_sipush (n := 43) (v := 256) dX3_most_40 rfl (by decide) ?_
  refine wp_icmp_ge (n := 46) (t := 96) dX3_most_43 rfl (by decide) (fun c43 => ?_) (fun c43 => ?_)
  · replace h := h.1 c43
    refine wp_lload (n := 98) (i := 4) (q := 4) dX3_most_96 rfl rfl ?_
    exact wp_lreturn dX3_most_98 rfl h
  · replace h := h.2 c43
    refine wp_iload (n := 48) (i := 6) (q := 5) dX3_most_46 rfl rfl ?_
    refine wp_iload_n (n := 49) (i := 3) (q := 3) dX3_most_48 rfl rfl rfl ?_
    refine wp_iconst (n := 50) (v := (-1)) dX3_most_49 rfl (by decide) ?_
    refine wp_ixor (n := 51) dX3_most_50 rfl ?_
    refine wp_iand (n := 52) dX3_most_51 rfl ?_
    refine wp_if_ne (n := 55) (t := 90) dX3_most_52 rfl (by decide) (fun c52 => ?_) (fun c52 => ?_)
    · replace h := h.1 c52
      refine wp_iinc (n := 93) (i := 6) (q := 5) (v := i6 + 1) (ls' := [(6, vI (i6 + 1)), (0, vR (some h0)), (1, vI i1), (2, vI i2), (3, vI i3), (4, vL l4)]) dX3_most_90 rfl rfl rfl (Nat.le_of_ble_eq_true rfl) rfl ?_
      refine wp_goto (t := 38) dX3_most_93 (by decide) ?_
      exact wp_sub [1, 2, 3, 4, 5, 0] rfl h
    · replace h := h.2 c52
      refine wp_aload_n (n := 56) (i := 0) (q := 0) dX3_most_55 rfl rfl rfl ?_
      refine wp_iload (n := 58) (i := 6) (q := 5) dX3_most_56 rfl rfl ?_
      obtain ⟨⟨fs58, o58⟩, h⟩ := h
      refine wp_call (n := 61) (K' := KX3_countOf) (rc' := rc) (rs' := rs) (aRun_V (K' := KX3_countOf) (As := [vI i6]) (rest := []) (b := h0) (c0 := .inr (3, fs58)) dX3_most_58 (aCal_of kf_X3_countOf (Nat.le_of_ble_eq_true rfl)) q1289 q1291 qs80 ar_X3_countOf o58 (by decide : 3 < 9) rfl (Nat.le_of_ble_eq_true rfl)) rfl (Nat.le_of_eq (Nat.zero_add _)) (Nat.le_of_eq (Nat.zero_add _)) (fun v58 w58 h => ?_) (fun E58 w58 h => ?_) h
      · obtain ⟨x58, rfl, h⟩ := h
        refine wp_iload_n (n := 62) (i := 2) (q := 2) dX3_most_61 rfl rfl rfl ?_
        refine wp_icmp_gt (n := 65) (t := 90) dX3_most_62 rfl (by decide) (fun c62 => ?_) (fun c62 => ?_)
        · replace h := h.1 c62
          refine wp_iinc (n := 93) (i := 6) (q := 5) (v := i6 + 1) (ls' := [(6, vI (i6 + 1)), (0, vR (some h0)), (1, vI i1), (2, vI i2), (3, vI i3), (4, vL l4)]) dX3_most_90 rfl rfl rfl (Nat.le_of_ble_eq_true rfl) rfl ?_
          refine wp_goto (t := 38) dX3_most_93 (by decide) ?_
          exact wp_sub [1, 2, 3, 4, 5, 0] rfl h
        · replace h := h.2 c62
          refine wp_aload_n (n := 66) (i := 0) (q := 0) dX3_most_65 rfl rfl rfl ?_
          refine wp_iload (n := 68) (i := 6) (q := 5) dX3_most_66 rfl rfl ?_
          obtain ⟨⟨fs68, o68⟩, h⟩ := h
          refine wp_call (n := 71) (K' := KX3_freedBy) (rc' := rc) (rs' := rs) (aRun_V (K' := KX3_freedBy) (As := [vI i6]) (rest := []) (b := h0) (c0 := .inr (3, fs68)) dX3_most_68 (aCal_of kf_X3_freedBy (Nat.le_of_ble_eq_true rfl)) q1293 q1295 qs81 ar_X3_freedBy o68 (by decide : 3 < 9) rfl (Nat.le_of_ble_eq_true rfl)) rfl (Nat.le_of_eq (Nat.zero_add _)) (Nat.le_of_eq (Nat.zero_add _)) (fun v68 w68 h => ?_) (fun E68 w68 h => ?_) h
          · obtain ⟨x68, rfl, h⟩ := h
            refine wp_lstore (n := 73) (i := 7) (ls' := [(7, vL x68), (0, vR (some h0)), (1, vI i1), (2, vI i2), (3, vI i3), (4, vL l4), (6, vI i6)]) dX3_most_71 rfl (Nat.le_of_ble_eq_true rfl) rfl ?_
            refine wp_lload (n := 75) (i := 7) (q := 0) dX3_most_73 rfl rfl ?_
            refine wp_lload (n := 77) (i := 4) (q := 5) dX3_most_75 rfl rfl ?_
            refine wp_lcmp (n := 78) dX3_most_77 rfl ?_
            refine wp_if_le (n := 81) (t := 86) dX3_most_78 rfl (by decide) (fun c78 => ?_) (fun c78 => ?_)
            · replace h := h.1 (lgc_le.mp c78)
              refine wp_lload (n := 88) (i := 4) (q := 5) dX3_most_86 rfl rfl ?_
              refine wp_lstore (n := 90) (i := 4) (ls' := [(4, vL l4), (7, vL x68), (0, vR (some h0)), (1, vI i1), (2, vI i2), (3, vI i3), (6, vI i6)]) dX3_most_88 rfl (Nat.le_of_ble_eq_true rfl) rfl ?_
              refine wp_iinc (n := 93) (i := 6) (q := 6) (v := i6 + 1) (ls' := [(6, vI (i6 + 1)), (4, vL l4), (7, vL x68), (0, vR (some h0)), (1, vI i1), (2, vI i2), (3, vI i3)]) dX3_most_90 rfl rfl rfl (Nat.le_of_ble_eq_true rfl) rfl ?_
              refine wp_goto (t := 38) dX3_most_93 (by decide) ?_
              exact wp_sub [3, 4, 5, 6, 1, 0] rfl h
            · replace h := h.2 (Classical.byContradiction (fun z => c78 (lgc_le.mpr z)))
              refine wp_lload (n := 83) (i := 7) (q := 0) dX3_most_81 rfl rfl ?_
              refine wp_goto (t := 88) dX3_most_83 (by decide) ?_
              refine wp_lstore (n := 90) (i := 4) (ls' := [(4, vL x68), (7, vL x68), (0, vR (some h0)), (1, vI i1), (2, vI i2), (3, vI i3), (6, vI i6)]) dX3_most_88 rfl (Nat.le_of_ble_eq_true rfl) rfl ?_
              refine wp_iinc (n := 93) (i := 6) (q := 6) (v := i6 + 1) (ls' := [(6, vI (i6 + 1)), (4, vL x68), (7, vL x68), (0, vR (some h0)), (1, vI i1), (2, vI i2), (3, vI i3)]) dX3_most_90 rfl rfl rfl (Nat.le_of_ble_eq_true rfl) rfl ?_
              refine wp_goto (t := 38) dX3_most_93 (by decide) ?_
              exact wp_sub [3, 4, 5, 6, 1, 0] rfl h
          · exact h.elim
      · exact h.elim
set_option maxHeartbeats 1000000 in
theorem sg_X3_range_0 {h0 : Nat} {i1 : Int32} {i2 : Int32} {rc rs : Nat} {QR : Option aV → aW → Prop} {QX : String → aW → Prop} {w : aW} (h : isO w h0 3 ∧ ct (KX3_isSnapshot) 0 0 [vR (some h0), vI i1] w (fun v2 w2 => ∃ x2 : Int32, v2 = some (vI x2) ∧ (x2 = 0 → QR (some (vL (-4611686018427387904))) w2) ∧ (¬ x2 = 0 → isO w2 h0 3 ∧ ct (KX3_isSnapshot) 0 0 [vR (some h0), vI i2] w2 (fun v10 w10 => ∃ x10 : Int32, v10 = some (vI x10) ∧ (¬ x10 = 0 → wp (KX3_range) rc rs QR QX 25 [(0, vR (some h0)), (1, vI i1), (2, vI i2), (3, vI 0), (4, vI i2)] [] w10) ∧ (x10 = 0 → QR (some (vL (-4611686018427387904))) w10)) (fun E10 w10 => False))) (fun E2 w2 => False)) : wp (KX3_range) rc rs QR QX 0 [(0, vR (some h0)), (1, vI i1), (2, vI i2)] [] w := by
  refine wp_aload_n (n := 1) (i := 0) (q := 0) dX3_range_0 rfl rfl rfl ?_
  refine wp_iload_n (n := 2) (i := 1) (q := 1) dX3_range_1 rfl rfl rfl ?_
  obtain ⟨⟨fs2, o2⟩, h⟩ := h
  refine wp_call (n := 5) (K' := KX3_isSnapshot) (rc' := rc) (rs' := rs) (aRun_V (K' := KX3_isSnapshot) (As := [vI i1]) (rest := []) (b := h0) (c0 := .inr (3, fs2)) dX3_range_2 (aCal_of kf_X3_isSnapshot (Nat.le_of_ble_eq_true rfl)) q1139 q1141 qs64 ar_X3_isSnapshot o2 (by decide : 3 < 9) rfl (Nat.le_of_ble_eq_true rfl)) rfl (Nat.le_of_eq (Nat.zero_add _)) (Nat.le_of_eq (Nat.zero_add _)) (fun v2 w2 h => ?_) (fun E2 w2 h => ?_) h
  · obtain ⟨x2, rfl, h⟩ := h
    refine wp_if_eq (n := 8) (t := 16) dX3_range_5 rfl (by decide) (fun c5 => ?_) (fun c5 => ?_)
    · replace h := h.1 c5
      refine wp_ldc2 (n := 19) dX3_range_16 rfl q1248 ?_
      exact wp_lreturn dX3_range_19 rfl h
    · replace h := h.2 c5
      refine wp_aload_n (n := 9) (i := 0) (q := 0) dX3_range_8 rfl rfl rfl ?_
      refine wp_iload_n (n := 10) (i := 2) (q := 2) dX3_range_9 rfl rfl rfl ?_
      obtain ⟨⟨fs10, o10⟩, h⟩ := h
      refine wp_call (n := 13) (K' := KX3_isSnapshot) (rc' := rc) (rs' := rs) (aRun_V (K' := KX3_isSnapshot) (As := [vI i2]) (rest := []) (b := h0) (c0 := .inr (3, fs10)) dX3_range_10 (aCal_of kf_X3_isSnapshot (Nat.le_of_ble_eq_true rfl)) q1139 q1141 qs64 ar_X3_isSnapshot o10 (by decide : 3 < 9) rfl (Nat.le_of_ble_eq_true rfl)) rfl (Nat.le_of_eq (Nat.zero_add _)) (Nat.le_of_eq (Nat.zero_add _)) (fun v10 w10 h => ?_) (fun E10 w10 h => ?_) h
      · obtain ⟨x10, rfl, h⟩ := h
        refine wp_if_ne (n := 16) (t := 20) dX3_range_13 rfl (by decide) (fun c13 => ?_) (fun c13 => ?_)
        · replace h := h.1 c13
          refine wp_iconst (n := 21) (v := 0) dX3_range_20 rfl (by decide) ?_
          refine wp_istore_n (n := 22) (i := 3) (ls' := [(3, vI 0), (0, vR (some h0)), (1, vI i1), (2, vI i2)]) dX3_range_21 rfl rfl (Nat.le_of_ble_eq_true rfl) rfl ?_
          refine wp_iload_n (n := 23) (i := 2) (q := 3) dX3_range_22 rfl rfl rfl ?_
          refine wp_istore (n := 25) (i := 4) (ls' := [(4, vI i2), (3, vI 0), (0, vR (some h0)), (1, vI i1), (2, vI i2)]) dX3_range_23 rfl (Nat.le_of_ble_eq_true rfl) rfl ?_
          exact wp_sub [2, 3, 4, 1, 0] rfl h
        · replace h := h.2 c13
          refine wp_ldc2 (n := 19) dX3_range_16 rfl q1248 ?_
          exact wp_lreturn dX3_range_19 rfl h
      · exact h.elim
  · exact h.elim
set_option maxHeartbeats 1000000 in
theorem sg_X3_range_25 {h0 : Nat} {i1 : Int32} {i2 : Int32} {i3 : Int32} {i4 : Int32} {rc rs : Nat} {QR : Option aV → aW → Prop} {QX : String → aW → Prop} {w : aW} (h : (i4 = (-1) → (¬ i4 = (-1) → isO w h0 3 ∧ ct (KX3_aloneIn) 0 0 [vR (some h0), vI (i3 ||| (1 <<< (i1 &&& 31)))] w (fun v77 w77 => ∃ x77 : Int64, v77 = some (vL x77) ∧ QR (some (vL x77)) w77) (fun E77 w77 => False)) ∧ (i4 = (-1) → QR (some (vL (-4611686018427387904))) w)) ∧ (¬ i4 = (-1) → (i4 = i1 → (¬ i4 = (-1) → isO w h0 3 ∧ ct (KX3_aloneIn) 0 0 [vR (some h0), vI (i3 ||| (1 <<< (i1 &&& 31)))] w (fun v77 w77 => ∃ x77 : Int64, v77 = some (vL x77) ∧ QR (some (vL x77)) w77) (fun E77 w77 => False)) ∧ (i4 = (-1) → QR (some (vL (-4611686018427387904))) w)) ∧ (¬ i4 = i1 → ∃ x45 : Nat, gf w h0 [3] 1 (vR (some x45)) ∧ ∃ x53 : Int32, gI w x45 (42 + i4) x53 ∧ wp (KX3_range) rc rs QR QX 25 [(0, vR (some h0)), (1, vI i1), (2, vI i2), (3, vI (i3 ||| (1 <<< (i4 &&& 31)))), (4, vI x53)] [] w))) : wp (KX3_range) rc rs QR QX 25 [(0, vR (some h0)), (1, vI i1), (2, vI i2), (3, vI i3), (4, vI i4)] [] w := by
  refine wp_iload (n := 27) (i := 4) (q := 4) dX3_range_25 rfl rfl ?_
  refine wp_iconst (n := 28) (v := (-1)) dX3_range_27 rfl (by decide) ?_
  refine wp_icmp_eq (n := 31) (t := 59) dX3_range_28 rfl (by decide) (fun c28 => ?_) (fun c28 => ?_)
  · replace h := h.1 c28
    refine wp_iload (n := 61) (i := 4) (q := 4) dX3_range_59 rfl rfl ?_
    refine wp_iconst (n := 62) (v := (-1)) dX3_range_61 rfl (by decide) ?_
    refine wp_icmp_ne (n := 65) (t := 71) dX3_range_62 rfl (by decide) (fun c62 => ?_) (fun c62 => ?_)
    · replace h := h.1 c62
      refine wp_aload_n (n := 72) (i := 0) (q := 0) dX3_range_71 rfl rfl rfl ?_
      refine wp_iload_n (n := 73) (i := 3) (q := 3) dX3_range_72 rfl rfl rfl ?_
      refine wp_iconst (n := 74) (v := 1) dX3_range_73 rfl (by decide) ?_
      refine wp_iload_n (n := 75) (i := 1) (q := 1) dX3_range_74 rfl rfl rfl ?_
      refine wp_ishl (n := 76) dX3_range_75 rfl ?_
      refine wp_ior (n := 77) dX3_range_76 rfl ?_
      obtain ⟨⟨fs77, o77⟩, h⟩ := h
      refine wp_call (n := 80) (K' := KX3_aloneIn) (rc' := rc) (rs' := rs) (aRun_V (K' := KX3_aloneIn) (As := [vI (i3 ||| (1 <<< (i1 &&& 31)))]) (rest := []) (b := h0) (c0 := .inr (3, fs77)) dX3_range_77 (aCal_of kf_X3_aloneIn (Nat.le_of_ble_eq_true rfl)) q1257 q1259 qs76 ar_X3_aloneIn o77 (by decide : 3 < 9) rfl (Nat.le_of_ble_eq_true rfl)) rfl (Nat.le_of_eq (Nat.zero_add _)) (Nat.le_of_eq (Nat.zero_add _)) (fun v77 w77 h => ?_) (fun E77 w77 h => ?_) h
      · obtain ⟨x77, rfl, h⟩ := h
        exact wp_lreturn dX3_range_80 rfl h
      · exact h.elim
    · replace h := h.2 c62
      refine wp_ldc2 (n := 68) dX3_range_65 rfl q1248 ?_
      refine wp_goto (t := 80) dX3_range_68 (by decide) ?_
      exact wp_lreturn dX3_range_80 rfl h
  · replace h := h.2 c28
    refine wp_iload (n := 33) (i := 4) (q := 4) dX3_range_31 rfl rfl ?_
    refine wp_iload_n (n := 34) (i := 1) (q := 1) dX3_range_33 rfl rfl rfl ?_
    refine wp_icmp_eq (n := 37) (t := 59) dX3_range_34 rfl (by decide) (fun c34 => ?_) (fun c34 => ?_)
    · replace h := h.1 c34
      refine wp_iload (n := 61) (i := 4) (q := 4) dX3_range_59 rfl rfl ?_
      refine wp_iconst (n := 62) (v := (-1)) dX3_range_61 rfl (by decide) ?_
      refine wp_icmp_ne (n := 65) (t := 71) dX3_range_62 rfl (by decide) (fun c62 => ?_) (fun c62 => ?_)
      · replace h := h.1 c62
        refine wp_aload_n (n := 72) (i := 0) (q := 0) dX3_range_71 rfl rfl rfl ?_
        refine wp_iload_n (n := 73) (i := 3) (q := 3) dX3_range_72 rfl rfl rfl ?_
        refine wp_iconst (n := 74) (v := 1) dX3_range_73 rfl (by decide) ?_
        refine wp_iload_n (n := 75) (i := 1) (q := 1) dX3_range_74 rfl rfl rfl ?_
        refine wp_ishl (n := 76) dX3_range_75 rfl ?_
        refine wp_ior (n := 77) dX3_range_76 rfl ?_
        obtain ⟨⟨fs77, o77⟩, h⟩ := h
        refine wp_call (n := 80) (K' := KX3_aloneIn) (rc' := rc) (rs' := rs) (aRun_V (K' := KX3_aloneIn) (As := [vI (i3 ||| (1 <<< (i1 &&& 31)))]) (rest := []) (b := h0) (c0 := .inr (3, fs77)) dX3_range_77 (aCal_of kf_X3_aloneIn (Nat.le_of_ble_eq_true rfl)) q1257 q1259 qs76 ar_X3_aloneIn o77 (by decide : 3 < 9) rfl (Nat.le_of_ble_eq_true rfl)) rfl (Nat.le_of_eq (Nat.zero_add _)) (Nat.le_of_eq (Nat.zero_add _)) (fun v77 w77 h => ?_) (fun E77 w77 h => ?_) h
        · obtain ⟨x77, rfl, h⟩ := h
          exact wp_lreturn dX3_range_80 rfl h
        · exact h.elim
      · replace h := h.2 c62
        refine wp_ldc2 (n := 68) dX3_range_65 rfl q1248 ?_
        refine wp_goto (t := 80) dX3_range_68 (by decide) ?_
        exact wp_lreturn dX3_range_80 rfl h
    · replace h := h.2 c34
      refine wp_iload_n (n := 38) (i := 3) (q := 3) dX3_range_37 rfl rfl rfl ?_
      refine wp_iconst (n := 39) (v := 1) dX3_range_38 rfl (by decide) ?_
      refine wp_iload (n := 41) (i := 4) (q := 4) dX3_range_39 rfl rfl ?_
      refine wp_ishl (n := 42) dX3_range_41 rfl ?_
      refine wp_ior (n := 43) dX3_range_42 rfl ?_
      refine wp_istore_n (n := 44) (i := 3) (ls' := [(3, vI (i3 ||| (1 <<< (i4 &&& 31)))), (0, vR (some h0)), (1, vI i1), (2, vI i2), (4, vI i4)]) dX3_range_43 rfl rfl (Nat.le_of_ble_eq_true rfl) rfl ?_
      refine wp_aload_n (n := 45) (i := 0) (q := 1) dX3_range_44 rfl rfl rfl ?_
      obtain ⟨x45, g45, h⟩ := h
      refine wp_gf (n := 48) dX3_range_45 rfl fl_X3_7 g45 ?_
      refine wp_bipush (n := 50) (v := 42) dX3_range_48 rfl (by decide) ?_
      refine wp_iload (n := 52) (i := 4) (q := 4) dX3_range_50 rfl rfl ?_
      refine wp_iadd (n := 53) dX3_range_52 rfl ?_
      obtain ⟨x53, g53, h⟩ := h
      refine wp_gI (n := 54) dX3_range_53 rfl g53 ?_
      refine wp_istore (n := 56) (i := 4) (ls' := [(4, vI x53), (3, vI (i3 ||| (1 <<< (i4 &&& 31)))), (0, vR (some h0)), (1, vI i1), (2, vI i2)]) dX3_range_54 rfl (Nat.le_of_ble_eq_true rfl) rfl ?_
      refine wp_goto (t := 25) dX3_range_56 (by decide) ?_
      exact wp_sub [2, 3, 4, 1, 0] rfl h
set_option maxHeartbeats 1000000 in
theorem sg_X3_sheet_0 {h0 : Nat} {i1 : Int32} {i2 : Int32} {i3 : Int32} {rc rs : Nat} {QR : Option aV → aW → Prop} {QX : String → aW → Prop} {w : aW} (h : ct (KX3_isSheet) 0 0 [vI i1] w (fun v1 w1 => ∃ x1 : Int32, v1 = some (vI x1) ∧ (x1 = 0 → QR (some (vI (-2))) w1) ∧ (¬ x1 = 0 → ct (KX3_in) 0 0 [vI i2, vI (-1), vI 1] w1 (fun v10 w10 => ∃ x10 : Int32, v10 = some (vI x10) ∧ (x10 = 0 → QR (some (vI (-2))) w10) ∧ (¬ x10 = 0 → (i2 = (-1) → (i2 = (-1) → (¬ i2 = (-1) → isO w10 h0 3 ∧ ct (KX3_makes) 0 0 [vR (some h0), vI i1, vI i2, vI i3] w10 (fun v55 w55 => v55 = none ∧ QR (some (vI 1)) w55) (fun E55 w55 => False)) ∧ (i2 = (-1) → isO w10 h0 3 ∧ ct (KX3_makes) 0 0 [vR (some h0), vI i1, vI i2, vI 0] w10 (fun v55 w55 => v55 = none ∧ QR (some (vI 1)) w55) (fun E55 w55 => False))) ∧ (¬ i2 = (-1) → (0 ≤ i3 → (¬ i2 = (-1) → isO w10 h0 3 ∧ ct (KX3_makes) 0 0 [vR (some h0), vI i1, vI i2, vI i3] w10 (fun v55 w55 => v55 = none ∧ QR (some (vI 1)) w55) (fun E55 w55 => False)) ∧ (i2 = (-1) → isO w10 h0 3 ∧ ct (KX3_makes) 0 0 [vR (some h0), vI i1, vI i2, vI 0] w10 (fun v55 w55 => v55 = none ∧ QR (some (vI 1)) w55) (fun E55 w55 => False))) ∧ (¬ 0 ≤ i3 → QR (some (vI (-14))) w10))) ∧ (¬ i2 = (-1) → (i3 ≤ 40 → (i2 = (-1) → (¬ i2 = (-1) → isO w10 h0 3 ∧ ct (KX3_makes) 0 0 [vR (some h0), vI i1, vI i2, vI i3] w10 (fun v55 w55 => v55 = none ∧ QR (some (vI 1)) w55) (fun E55 w55 => False)) ∧ (i2 = (-1) → isO w10 h0 3 ∧ ct (KX3_makes) 0 0 [vR (some h0), vI i1, vI i2, vI 0] w10 (fun v55 w55 => v55 = none ∧ QR (some (vI 1)) w55) (fun E55 w55 => False))) ∧ (¬ i2 = (-1) → (0 ≤ i3 → (¬ i2 = (-1) → isO w10 h0 3 ∧ ct (KX3_makes) 0 0 [vR (some h0), vI i1, vI i2, vI i3] w10 (fun v55 w55 => v55 = none ∧ QR (some (vI 1)) w55) (fun E55 w55 => False)) ∧ (i2 = (-1) → isO w10 h0 3 ∧ ct (KX3_makes) 0 0 [vR (some h0), vI i1, vI i2, vI 0] w10 (fun v55 w55 => v55 = none ∧ QR (some (vI 1)) w55) (fun E55 w55 => False))) ∧ (¬ 0 ≤ i3 → QR (some (vI (-14))) w10))) ∧ (¬ i3 ≤ 40 → QR (some (vI (-2))) w10)))) (fun E10 w10 => False))) (fun E1 w1 => False)) : wp (KX3_sheet) rc rs QR QX 0 [(0, vR (some h0)), (1, vI i1), (2, vI i2), (3, vI i3)] [] w := by
  refine wp_iload_n (n := 1) (i := 1) (q := 1) dX3_sheet_0 rfl rfl rfl ?_
  refine wp_call (n := 4) (K' := KX3_isSheet) (rc' := rc) (rs' := rs) (aRun_S (K' := KX3_isSheet) (As := [vI i1]) (rest := []) dX3_sheet_1 (aCal_of kf_X3_isSheet (Nat.le_of_ble_eq_true rfl)) rfl q1309 q1310 ar_X3_isSheet rfl (Nat.le_of_ble_eq_true rfl)) rfl (Nat.le_of_eq (Nat.zero_add _)) (Nat.le_of_eq (Nat.zero_add _)) (fun v1 w1 h => ?_) (fun E1 w1 h => ?_) h
  · obtain ⟨x1, rfl, h⟩ := h
    refine wp_if_eq (n := 7) (t := 27) dX3_sheet_4 rfl (by decide) (fun c4 => ?_) (fun c4 => ?_)
    · replace h := h.1 c4
      refine wp_bipush (n := 29) (v := (-2)) dX3_sheet_27 rfl (by decide) ?_
      exact wp_ireturn dX3_sheet_29 rfl h
    · replace h := h.2 c4
      refine wp_iload_n (n := 8) (i := 2) (q := 2) dX3_sheet_7 rfl rfl rfl ?_
      refine wp_iconst (n := 9) (v := (-1)) dX3_sheet_8 rfl (by decide) ?_
      refine wp_iconst (n := 10) (v := 1) dX3_sheet_9 rfl (by decide) ?_
      refine wp_call (n := 13) (K' := KX3_in) (rc' := rc) (rs' := rs) (aRun_S (K' := KX3_in) (As := [vI i2, vI (-1), vI 1]) (rest := []) dX3_sheet_10 (aCal_of kf_X3_in (Nat.le_of_ble_eq_true rfl)) rfl q1077 q1078 ar_X3_in rfl (Nat.le_of_ble_eq_true rfl)) rfl (Nat.le_of_eq (Nat.zero_add _)) (Nat.le_of_eq (Nat.zero_add _)) (fun v10 w10 h => ?_) (fun E10 w10 h => ?_) h
      · obtain ⟨x10, rfl, h⟩ := h
        refine wp_if_eq (n := 16) (t := 27) dX3_sheet_13 rfl (by decide) (fun c13 => ?_) (fun c13 => ?_)
        · replace h := h.1 c13
          refine wp_bipush (n := 29) (v := (-2)) dX3_sheet_27 rfl (by decide) ?_
          exact wp_ireturn dX3_sheet_29 rfl h
        · replace h := h.2 c13
          refine wp_iload_n (n := 17) (i := 2) (q := 2) dX3_sheet_16 rfl rfl rfl ?_
          refine wp_iconst (n := 18) (v := (-1)) dX3_sheet_17 rfl (by decide) ?_
          refine wp_icmp_eq (n := 21) (t := 30) dX3_sheet_18 rfl (by decide) (fun c18 => ?_) (fun c18 => ?_)
          · replace h := h.1 c18
            refine wp_iload_n (n := 31) (i := 2) (q := 2) dX3_sheet_30 rfl rfl rfl ?_
            refine wp_iconst (n := 32) (v := (-1)) dX3_sheet_31 rfl (by decide) ?_
            refine wp_icmp_eq (n := 35) (t := 42) dX3_sheet_32 rfl (by decide) (fun c32 => ?_) (fun c32 => ?_)
            · replace h := h.1 c32
              refine wp_aload_n (n := 43) (i := 0) (q := 0) dX3_sheet_42 rfl rfl rfl ?_
              refine wp_iload_n (n := 44) (i := 1) (q := 1) dX3_sheet_43 rfl rfl rfl ?_
              refine wp_iload_n (n := 45) (i := 2) (q := 2) dX3_sheet_44 rfl rfl rfl ?_
              refine wp_iload_n (n := 46) (i := 2) (q := 2) dX3_sheet_45 rfl rfl rfl ?_
              refine wp_iconst (n := 47) (v := (-1)) dX3_sheet_46 rfl (by decide) ?_
              refine wp_icmp_ne (n := 50) (t := 54) dX3_sheet_47 rfl (by decide) (fun c47 => ?_) (fun c47 => ?_)
              · replace h := h.1 c47
                refine wp_iload_n (n := 55) (i := 3) (q := 3) dX3_sheet_54 rfl rfl rfl ?_
                obtain ⟨⟨fs55, o55⟩, h⟩ := h
                refine wp_call (n := 58) (K' := KX3_makes) (rc' := rc) (rs' := rs) (aRun_V (K' := KX3_makes) (As := [vI i1, vI i2, vI i3]) (rest := []) (b := h0) (c0 := .inr (3, fs55)) dX3_sheet_55 (aCal_of kf_X3_makes (Nat.le_of_ble_eq_true rfl)) q1312 q1314 qs82 ar_X3_makes o55 (by decide : 3 < 9) rfl (Nat.le_of_ble_eq_true rfl)) rfl (Nat.le_of_eq (Nat.zero_add _)) (Nat.le_of_eq (Nat.zero_add _)) (fun v55 w55 h => ?_) (fun E55 w55 h => ?_) h
                · obtain ⟨rfl, h⟩ := h
                  refine wp_iconst (n := 59) (v := 1) dX3_sheet_58 rfl (by decide) ?_
                  exact wp_ireturn dX3_sheet_59 rfl h
                · exact h.elim
              · replace h := h.2 c47
                refine wp_iconst (n := 51) (v := 0) dX3_sheet_50 rfl (by decide) ?_
                refine wp_goto (t := 55) dX3_sheet_51 (by decide) ?_
                obtain ⟨⟨fs55, o55⟩, h⟩ := h
                refine wp_call (n := 58) (K' := KX3_makes) (rc' := rc) (rs' := rs) (aRun_V (K' := KX3_makes) (As := [vI i1, vI i2, vI 0]) (rest := []) (b := h0) (c0 := .inr (3, fs55)) dX3_sheet_55 (aCal_of kf_X3_makes (Nat.le_of_ble_eq_true rfl)) q1312 q1314 qs82 ar_X3_makes o55 (by decide : 3 < 9) rfl (Nat.le_of_ble_eq_true rfl)) rfl (Nat.le_of_eq (Nat.zero_add _)) (Nat.le_of_eq (Nat.zero_add _)) (fun v55 w55 h => ?_) (fun E55 w55 h => ?_) h
                · obtain ⟨rfl, h⟩ := h
                  refine wp_iconst (n := 59) (v := 1) dX3_sheet_58 rfl (by decide) ?_
                  exact wp_ireturn dX3_sheet_59 rfl h
                · exact h.elim
            · replace h := h.2 c32
              refine wp_iload_n (n := 36) (i := 3) (q := 3) dX3_sheet_35 rfl rfl rfl ?_
              refine wp_if_ge (n := 39) (t := 42) dX3_sheet_36 rfl (by decide) (fun c36 => ?_) (fun c36 => ?_)
              · replace h := h.1 c36
                refine wp_aload_n (n := 43) (i := 0) (q := 0) dX3_sheet_42 rfl rfl rfl ?_
                refine wp_iload_n (n := 44) (i := 1) (q := 1) dX3_sheet_43 rfl rfl rfl ?_
                refine wp_iload_n (n := 45) (i := 2) (q := 2) dX3_sheet_44 rfl rfl rfl ?_
                refine wp_iload_n (n := 46) (i := 2) (q := 2) dX3_sheet_45 rfl rfl rfl ?_
                refine wp_iconst (n := 47) (v := (-1)) dX3_sheet_46 rfl (by decide) ?_
                refine wp_icmp_ne (n := 50) (t := 54) dX3_sheet_47 rfl (by decide) (fun c47 => ?_) (fun c47 => ?_)
                · replace h := h.1 c47
                  refine wp_iload_n (n := 55) (i := 3) (q := 3) dX3_sheet_54 rfl rfl rfl ?_
                  obtain ⟨⟨fs55, o55⟩, h⟩ := h
                  refine wp_call (n := 58) (K' := KX3_makes) (rc' := rc) (rs' := rs) (aRun_V (K' := KX3_makes) (As := [vI i1, vI i2, vI i3]) (rest := []) (b := h0) (c0 := .inr (3, fs55)) dX3_sheet_55 (aCal_of kf_X3_makes (Nat.le_of_ble_eq_true rfl)) q1312 q1314 qs82 ar_X3_makes o55 (by decide : 3 < 9) rfl (Nat.le_of_ble_eq_true rfl)) rfl (Nat.le_of_eq (Nat.zero_add _)) (Nat.le_of_eq (Nat.zero_add _)) (fun v55 w55 h => ?_) (fun E55 w55 h => ?_) h
                  · obtain ⟨rfl, h⟩ := h
                    refine wp_iconst (n := 59) (v := 1) dX3_sheet_58 rfl (by decide) ?_
                    exact wp_ireturn dX3_sheet_59 rfl h
                  · exact h.elim
                · replace h := h.2 c47
                  refine wp_iconst (n := 51) (v := 0) dX3_sheet_50 rfl (by decide) ?_
                  refine wp_goto (t := 55) dX3_sheet_51 (by decide) ?_
                  obtain ⟨⟨fs55, o55⟩, h⟩ := h
                  refine wp_call (n := 58) (K' := KX3_makes) (rc' := rc) (rs' := rs) (aRun_V (K' := KX3_makes) (As := [vI i1, vI i2, vI 0]) (rest := []) (b := h0) (c0 := .inr (3, fs55)) dX3_sheet_55 (aCal_of kf_X3_makes (Nat.le_of_ble_eq_true rfl)) q1312 q1314 qs82 ar_X3_makes o55 (by decide : 3 < 9) rfl (Nat.le_of_ble_eq_true rfl)) rfl (Nat.le_of_eq (Nat.zero_add _)) (Nat.le_of_eq (Nat.zero_add _)) (fun v55 w55 h => ?_) (fun E55 w55 h => ?_) h
                  · obtain ⟨rfl, h⟩ := h
                    refine wp_iconst (n := 59) (v := 1) dX3_sheet_58 rfl (by decide) ?_
                    exact wp_ireturn dX3_sheet_59 rfl h
                  · exact h.elim
              · replace h := h.2 c36
                refine wp_bipush (n := 41) (v := (-14)) dX3_sheet_39 rfl (by decide) ?_
                exact wp_ireturn dX3_sheet_41 rfl h
          · replace h := h.2 c18
            refine wp_iload_n (n := 22) (i := 3) (q := 3) dX3_sheet_21 rfl rfl rfl ?_
            refine wp_bipush (n := 24) (v := 40) dX3_sheet_22 rfl (by decide) ?_
            refine wp_icmp_le (n := 27) (t := 30) dX3_sheet_24 rfl (by decide) (fun c24 => ?_) (fun c24 => ?_)
            · replace h := h.1 c24
              refine wp_iload_n (n := 31) (i := 2) (q := 2) dX3_sheet_30 rfl rfl rfl ?_
              refine wp_iconst (n := 32) (v := (-1)) dX3_sheet_31 rfl (by decide) ?_
              refine wp_icmp_eq (n := 35) (t := 42) dX3_sheet_32 rfl (by decide) (fun c32 => ?_) (fun c32 => ?_)
              · replace h := h.1 c32
                refine wp_aload_n (n := 43) (i := 0) (q := 0) dX3_sheet_42 rfl rfl rfl ?_
                refine wp_iload_n (n := 44) (i := 1) (q := 1) dX3_sheet_43 rfl rfl rfl ?_
                refine wp_iload_n (n := 45) (i := 2) (q := 2) dX3_sheet_44 rfl rfl rfl ?_
                refine wp_iload_n (n := 46) (i := 2) (q := 2) dX3_sheet_45 rfl rfl rfl ?_
                refine wp_iconst (n := 47) (v := (-1)) dX3_sheet_46 rfl (by decide) ?_
                refine wp_icmp_ne (n := 50) (t := 54) dX3_sheet_47 rfl (by decide) (fun c47 => ?_) (fun c47 => ?_)
                · replace h := h.1 c47
                  refine wp_iload_n (n := 55) (i := 3) (q := 3) dX3_sheet_54 rfl rfl rfl ?_
                  obtain ⟨⟨fs55, o55⟩, h⟩ := h
                  refine wp_call (n := 58) (K' := KX3_makes) (rc' := rc) (rs' := rs) (aRun_V (K' := KX3_makes) (As := [vI i1, vI i2, vI i3]) (rest := []) (b := h0) (c0 := .inr (3, fs55)) dX3_sheet_55 (aCal_of kf_X3_makes (Nat.le_of_ble_eq_true rfl)) q1312 q1314 qs82 ar_X3_makes o55 (by decide : 3 < 9) rfl (Nat.le_of_ble_eq_true rfl)) rfl (Nat.le_of_eq (Nat.zero_add _)) (Nat.le_of_eq (Nat.zero_add _)) (fun v55 w55 h => ?_) (fun E55 w55 h => ?_) h
                  · obtain ⟨rfl, h⟩ := h
                    refine wp_iconst (n := 59) (v := 1) dX3_sheet_58 rfl (by decide) ?_
                    exact wp_ireturn dX3_sheet_59 rfl h
                  · exact h.elim
                · replace h := h.2 c47
                  refine wp_iconst (n := 51) (v := 0) dX3_sheet_50 rfl (by decide) ?_
                  refine wp_goto (t := 55) dX3_sheet_51 (by decide) ?_
                  obtain ⟨⟨fs55, o55⟩, h⟩ := h
                  refine wp_call (n := 58) (K' := KX3_makes) (rc' := rc) (rs' := rs) (aRun_V (K' := KX3_makes) (As := [vI i1, vI i2, vI 0]) (rest := []) (b := h0) (c0 := .inr (3, fs55)) dX3_sheet_55 (aCal_of kf_X3_makes (Nat.le_of_ble_eq_true rfl)) q1312 q1314 qs82 ar_X3_makes o55 (by decide : 3 < 9) rfl (Nat.le_of_ble_eq_true rfl)) rfl (Nat.le_of_eq (Nat.zero_add _)) (Nat.le_of_eq (Nat.zero_add _)) (fun v55 w55 h => ?_) (fun E55 w55 h => ?_) h
                  · obtain ⟨rfl, h⟩ := h
                    refine wp_iconst (n := 59) (v := 1) dX3_sheet_58 rfl (by decide) ?_
                    exact wp_ireturn dX3_sheet_59 rfl h
                  · exact h.elim
              · replace h := h.2 c32
                refine wp_iload_n (n := 36) (i := 3) (q := 3) dX3_sheet_35 rfl rfl rfl ?_
                refine wp_if_ge (n := 39) (t := 42) dX3_sheet_36 rfl (by decide) (fun c36 => ?_) (fun c36 => ?_)
                · replace h := h.1 c36
                  refine wp_aload_n (n := 43) (i := 0) (q := 0) dX3_sheet_42 rfl rfl rfl ?_
                  refine wp_iload_n (n := 44) (i := 1) (q := 1) dX3_sheet_43 rfl rfl rfl ?_
                  refine wp_iload_n (n := 45) (i := 2) (q := 2) dX3_sheet_44 rfl rfl rfl ?_
                  refine wp_iload_n (n := 46) (i := 2) (q := 2) dX3_sheet_45 rfl rfl rfl ?_
                  refine wp_iconst (n := 47) (v := (-1)) dX3_sheet_46 rfl (by decide) ?_
                  refine wp_icmp_ne (n := 50) (t := 54) dX3_sheet_47 rfl (by decide) (fun c47 => ?_) (fun c47 => ?_)
                  · replace h := h.1 c47
                    refine wp_iload_n (n := 55) (i := 3) (q := 3) dX3_sheet_54 rfl rfl rfl ?_
                    obtain ⟨⟨fs55, o55⟩, h⟩ := h
                    refine wp_call (n := 58) (K' := KX3_makes) (rc' := rc) (rs' := rs) (aRun_V (K' := KX3_makes) (As := [vI i1, vI i2, vI i3]) (rest := []) (b := h0) (c0 := .inr (3, fs55)) dX3_sheet_55 (aCal_of kf_X3_makes (Nat.le_of_ble_eq_true rfl)) q1312 q1314 qs82 ar_X3_makes o55 (by decide : 3 < 9) rfl (Nat.le_of_ble_eq_true rfl)) rfl (Nat.le_of_eq (Nat.zero_add _)) (Nat.le_of_eq (Nat.zero_add _)) (fun v55 w55 h => ?_) (fun E55 w55 h => ?_) h
                    · obtain ⟨rfl, h⟩ := h
                      refine wp_iconst (n := 59) (v := 1) dX3_sheet_58 rfl (by decide) ?_
                      exact wp_ireturn dX3_sheet_59 rfl h
                    · exact h.elim
                  · replace h := h.2 c47
                    refine wp_iconst (n := 51) (v := 0) dX3_sheet_50 rfl (by decide) ?_
                    refine wp_goto (t := 55) dX3_sheet_51 (by decide) ?_
                    obtain ⟨⟨fs55, o55⟩, h⟩ := h
                    refine wp_call (n := 58) (K' := KX3_makes) (rc' := rc) (rs' := rs) (aRun_V (K' := KX3_makes) (As := [vI i1, vI i2, vI 0]) (rest := []) (b := h0) (c0 := .inr (3, fs55)) dX3_sheet_55 (aCal_of kf_X3_makes (Nat.le_of_ble_eq_true rfl)) q1312 q1314 qs82 ar_X3_makes o55 (by decide : 3 < 9) rfl (Nat.le_of_ble_eq_true rfl)) rfl (Nat.le_of_eq (Nat.zero_add _)) (Nat.le_of_eq (Nat.zero_add _)) (fun v55 w55 h => ?_) (fun E55 w55 h => ?_) h
                    · obtain ⟨rfl, h⟩ := h
                      refine wp_iconst (n := 59) (v := 1) dX3_sheet_58 rfl (by decide) ?_
                      exact wp_ireturn dX3_sheet_59 rfl h
                    · exact h.elim
                · replace h := h.2 c36
                  refine wp_bipush (n := 41) (v := (-14)) dX3_sheet_39 rfl (by decide) ?_
                  exact wp_ireturn dX3_sheet_41 rfl h
            · replace h := h.2 c24
              refine wp_bipush (n := 29) (v := (-2)) dX3_sheet_27 rfl (by decide) ?_
              exact wp_ireturn dX3_sheet_29 rfl h
      · exact h.elim
  · exact h.elim
set_option maxHeartbeats 1000000 in
theorem sg_X3_since_0 {h0 : Nat} {i1 : Int32} {i2 : Int32} {rc rs : Nat} {QR : Option aV → aW → Prop} {QX : String → aW → Prop} {w : aW} (h : isO w h0 3 ∧ ct (KX3_hasSlots) 0 0 [vR (some h0), vI i1] w (fun v2 w2 => ∃ x2 : Int32, v2 = some (vI x2) ∧ (x2 = 0 → QR (some (vL (-4611686018427387904))) w2) ∧ (¬ x2 = 0 → isO w2 h0 3 ∧ ct (KX3_isThing) 0 0 [vR (some h0), vI i2] w2 (fun v10 w10 => ∃ x10 : Int32, v10 = some (vI x10) ∧ (¬ x10 = 0 → wp (KX3_since) rc rs QR QX 25 [(0, vR (some h0)), (1, vI i1), (2, vI i2), (3, vL 0), (5, vI 0)] [] w10) ∧ (x10 = 0 → QR (some (vL (-4611686018427387904))) w10)) (fun E10 w10 => False))) (fun E2 w2 => False)) : wp (KX3_since) rc rs QR QX 0 [(0, vR (some h0)), (1, vI i1), (2, vI i2)] [] w := by
  refine wp_aload_n (n := 1) (i := 0) (q := 0) dX3_since_0 rfl rfl rfl ?_
  refine wp_iload_n (n := 2) (i := 1) (q := 1) dX3_since_1 rfl rfl rfl ?_
  obtain ⟨⟨fs2, o2⟩, h⟩ := h
  refine wp_call (n := 5) (K' := KX3_hasSlots) (rc' := rc) (rs' := rs) (aRun_V (K' := KX3_hasSlots) (As := [vI i1]) (rest := []) (b := h0) (c0 := .inr (3, fs2)) dX3_since_2 (aCal_of kf_X3_hasSlots (Nat.le_of_ble_eq_true rfl)) q1131 q1133 qs62 ar_X3_hasSlots o2 (by decide : 3 < 9) rfl (Nat.le_of_ble_eq_true rfl)) rfl (Nat.le_of_eq (Nat.zero_add _)) (Nat.le_of_eq (Nat.zero_add _)) (fun v2 w2 h => ?_) (fun E2 w2 h => ?_) h
  · obtain ⟨x2, rfl, h⟩ := h
    refine wp_if_eq (n := 8) (t := 16) dX3_since_5 rfl (by decide) (fun c5 => ?_) (fun c5 => ?_)
    · replace h := h.1 c5
      refine wp_ldc2 (n := 19) dX3_since_16 rfl q1248 ?_
      exact wp_lreturn dX3_since_19 rfl h
    · replace h := h.2 c5
      refine wp_aload_n (n := 9) (i := 0) (q := 0) dX3_since_8 rfl rfl rfl ?_
      refine wp_iload_n (n := 10) (i := 2) (q := 2) dX3_since_9 rfl rfl rfl ?_
      obtain ⟨⟨fs10, o10⟩, h⟩ := h
      refine wp_call (n := 13) (K' := KX3_isThing) (rc' := rc) (rs' := rs) (aRun_V (K' := KX3_isThing) (As := [vI i2]) (rest := []) (b := h0) (c0 := .inr (3, fs10)) dX3_since_10 (aCal_of kf_X3_isThing (Nat.le_of_ble_eq_true rfl)) q1100 q1102 qs55 ar_X3_isThing o10 (by decide : 3 < 9) rfl (Nat.le_of_ble_eq_true rfl)) rfl (Nat.le_of_eq (Nat.zero_add _)) (Nat.le_of_eq (Nat.zero_add _)) (fun v10 w10 h => ?_) (fun E10 w10 h => ?_) h
      · obtain ⟨x10, rfl, h⟩ := h
        refine wp_if_ne (n := 16) (t := 20) dX3_since_13 rfl (by decide) (fun c13 => ?_) (fun c13 => ?_)
        · replace h := h.1 c13
          refine wp_lconst (n := 21) (v := 0) dX3_since_20 rfl (by decide) ?_
          refine wp_lstore_n (n := 22) (i := 3) (ls' := [(3, vL 0), (0, vR (some h0)), (1, vI i1), (2, vI i2)]) dX3_since_21 rfl rfl (Nat.le_of_ble_eq_true rfl) rfl ?_
          refine wp_iconst (n := 23) (v := 0) dX3_since_22 rfl (by decide) ?_
          refine wp_istore (n := 25) (i := 5) (ls' := [(5, vI 0), (3, vL 0), (0, vR (some h0)), (1, vI i1), (2, vI i2)]) dX3_since_23 rfl (Nat.le_of_ble_eq_true rfl) rfl ?_
          exact wp_sub [2, 3, 4, 1, 0] rfl h
        · replace h := h.2 c13
          refine wp_ldc2 (n := 19) dX3_since_16 rfl q1248 ?_
          exact wp_lreturn dX3_since_19 rfl h
      · exact h.elim
  · exact h.elim
set_option maxHeartbeats 1000000 in
theorem sg_X3_since_25 {h0 : Nat} {i1 : Int32} {i2 : Int32} {l3 : Int64} {i5 : Int32} {rc rs : Nat} {QR : Option aV → aW → Prop} {QX : String → aW → Prop} {w : aW} (h : (12 ≤ i5 → QR (some (vL l3)) w) ∧ (¬ 12 ≤ i5 → ∃ x33 : Nat, gf w h0 [3] 1 (vR (some x33)) ∧ ∃ x46 : Int32, gI w x33 ((122 + (12 * i1)) + i5) x46 ∧ (x46 = (-1) → wp (KX3_since) rc rs QR QX 25 [(0, vR (some h0)), (1, vI i1), (2, vI i2), (3, vL (l3 + 0)), (5, vI (i5 + 1))] [] w) ∧ (¬ x46 = (-1) → ∃ x57 : Nat, gf w h0 [3] 1 (vR (some x57)) ∧ ∃ x66 : Int32, gI w x57 (458 + x46) x66 ∧ ∃ x68 : Nat, gf w h0 [3] 1 (vR (some x68)) ∧ ∃ x75 : Int32, gI w x68 (22 + i2) x75 ∧ (x66 ≤ x75 → wp (KX3_since) rc rs QR QX 25 [(0, vR (some h0)), (1, vI i1), (2, vI i2), (3, vL (l3 + 0)), (5, vI (i5 + 1))] [] w) ∧ (¬ x66 ≤ x75 → ∃ x80 : Nat, gf w h0 [3] 1 (vR (some x80)) ∧ ∃ x89 : Int32, gI w x80 (362 + x46) x89 ∧ wp (KX3_since) rc rs QR QX 25 [(0, vR (some h0)), (1, vI i1), (2, vI i2), (3, vL (l3 + (Int32.toInt64 x89))), (5, vI (i5 + 1))] [] w)))) : wp (KX3_since) rc rs QR QX 25 [(0, vR (some h0)), (1, vI i1), (2, vI i2), (3, vL l3), (5, vI i5)] [] w := by
  refine wp_iload (n := 27) (i := 5) (q := 4) dX3_since_25 rfl rfl ?_
  refine wp_bipush (n := 29) (v := 12) dX3_since_27 rfl (by decide) ?_
  refine wp_icmp_ge (n := 32) (t := 103) dX3_since_29 rfl (by decide) (fun c29 => ?_) (fun c29 => ?_)
  · replace h := h.1 c29
    refine wp_lload_n (n := 104) (i := 3) (q := 3) dX3_since_103 rfl rfl rfl ?_
    exact wp_lreturn dX3_since_104 rfl h
  · replace h := h.2 c29
    refine wp_aload_n (n := 33) (i := 0) (q := 0) dX3_since_32 rfl rfl rfl ?_
    obtain ⟨x33, g33, h⟩ := h
    refine wp_gf (n := 36) dX3_since_33 rfl fl_X3_7 g33 ?_
    refine wp_bipush (n := 38) (v := 122) dX3_since_36 rfl (by decide) ?_
    refine wp_bipush (n := 40) (v := 12) dX3_since_38 rfl (by decide) ?_
    refine wp_iload_n (n := 41) (i := 1) (q := 1) dX3_since_40 rfl rfl rfl ?_
    refine wp_imul (n := 42) dX3_since_41 rfl ?_
    refine wp_iadd (n := 43) dX3_since_42 rfl ?_
    refine wp_iload (n := 45) (i := 5) (q := 4) dX3_since_43 rfl rfl ?_
    refine wp_iadd (n := 46) dX3_since_45 rfl ?_
    obtain ⟨x46, g46, h⟩ := h
    refine wp_gI (n := 47) dX3_since_46 rfl g46 ?_
    refine wp_istore (n := 49) (i := 6) (ls' := [(6, vI x46), (0, vR (some h0)), (1, vI i1), (2, vI i2), (3, vL l3), (5, vI i5)]) dX3_since_47 rfl (Nat.le_of_ble_eq_true rfl) rfl ?_
    refine wp_lload_n (n := 50) (i := 3) (q := 4) dX3_since_49 rfl rfl rfl ?_
    refine wp_iload (n := 52) (i := 6) (q := 0) dX3_since_50 rfl rfl ?_
    refine wp_iconst (n := 53) (v := (-1)) dX3_since_52 rfl (by decide) ?_
    refine wp_icmp_eq (n := 56) (t := 94) dX3_since_53 rfl (by decide) (fun c53 => ?_) (fun c53 => ?_)
    · replace h := h.1 c53
      refine wp_lconst (n := 95) (v := 0) dX3_since_94 rfl (by decide) ?_
      refine wp_ladd (n := 96) dX3_since_95 rfl ?_
      refine wp_lstore_n (n := 97) (i := 3) (ls' := [(3, vL (l3 + 0)), (6, vI x46), (0, vR (some h0)), (1, vI i1), (2, vI i2), (5, vI i5)]) dX3_since_96 rfl rfl (Nat.le_of_ble_eq_true rfl) rfl ?_
      refine wp_iinc (n := 100) (i := 5) (q := 5) (v := i5 + 1) (ls' := [(5, vI (i5 + 1)), (3, vL (l3 + 0)), (6, vI x46), (0, vR (some h0)), (1, vI i1), (2, vI i2)]) dX3_since_97 rfl rfl rfl (Nat.le_of_ble_eq_true rfl) rfl ?_
      refine wp_goto (t := 25) dX3_since_100 (by decide) ?_
      exact wp_sub [3, 4, 5, 1, 0] rfl h
    · replace h := h.2 c53
      refine wp_aload_n (n := 57) (i := 0) (q := 1) dX3_since_56 rfl rfl rfl ?_
      obtain ⟨x57, g57, h⟩ := h
      refine wp_gf (n := 60) dX3_since_57 rfl fl_X3_7 g57 ?_
      refine wp_sipush (n := 63) (v := 458) dX3_since_60 rfl (by decide) ?_
      refine wp_iload (n := 65) (i := 6) (q := 0) dX3_since_63 rfl rfl ?_
      refine wp_iadd (n := 66) dX3_since_65 rfl ?_
      obtain ⟨x66, g66, h⟩ := h
      refine wp_gI (n := 67) dX3_since_66 rfl g66 ?_
      refine wp_aload_n (n := 68) (i := 0) (q := 1) dX3_since_67 rfl rfl rfl ?_
      obtain ⟨x68, g68, h⟩ := h
      refine wp_gf (n := 71) dX3_since_68 rfl fl_X3_7 g68 ?_
      refine wp_bipush (n := 73) (v := 22) dX3_since_71 rfl (by decide) ?_
      refine wp_iload_n (n := 74) (i := 2) (q := 3) dX3_since_73 rfl rfl rfl ?_
      refine wp_iadd (n := 75) dX3_since_74 rfl ?_
      obtain ⟨x75, g75, h⟩ := h
      refine wp_gI (n := 76) dX3_since_75 rfl g75 ?_
      refine wp_icmp_le (n := 79) (t := 94) dX3_since_76 rfl (by decide) (fun c76 => ?_) (fun c76 => ?_)
      · replace h := h.1 c76
        refine wp_lconst (n := 95) (v := 0) dX3_since_94 rfl (by decide) ?_
        refine wp_ladd (n := 96) dX3_since_95 rfl ?_
        refine wp_lstore_n (n := 97) (i := 3) (ls' := [(3, vL (l3 + 0)), (6, vI x46), (0, vR (some h0)), (1, vI i1), (2, vI i2), (5, vI i5)]) dX3_since_96 rfl rfl (Nat.le_of_ble_eq_true rfl) rfl ?_
        refine wp_iinc (n := 100) (i := 5) (q := 5) (v := i5 + 1) (ls' := [(5, vI (i5 + 1)), (3, vL (l3 + 0)), (6, vI x46), (0, vR (some h0)), (1, vI i1), (2, vI i2)]) dX3_since_97 rfl rfl rfl (Nat.le_of_ble_eq_true rfl) rfl ?_
        refine wp_goto (t := 25) dX3_since_100 (by decide) ?_
        exact wp_sub [3, 4, 5, 1, 0] rfl h
      · replace h := h.2 c76
        refine wp_aload_n (n := 80) (i := 0) (q := 1) dX3_since_79 rfl rfl rfl ?_
        obtain ⟨x80, g80, h⟩ := h
        refine wp_gf (n := 83) dX3_since_80 rfl fl_X3_7 g80 ?_
        refine wp_sipush (n := 86) (v := 362) dX3_since_83 rfl (by decide) ?_
        refine wp_iload (n := 88) (i := 6) (q := 0) dX3_since_86 rfl rfl ?_
        refine wp_iadd (n := 89) dX3_since_88 rfl ?_
        obtain ⟨x89, g89, h⟩ := h
        refine wp_gI (n := 90) dX3_since_89 rfl g89 ?_
        refine wp_i2l (n := 91) dX3_since_90 rfl ?_
        refine wp_goto (t := 95) dX3_since_91 (by decide) ?_
        refine wp_ladd (n := 96) dX3_since_95 rfl ?_
        refine wp_lstore_n (n := 97) (i := 3) (ls' := [(3, vL (l3 + (Int32.toInt64 x89))), (6, vI x46), (0, vR (some h0)), (1, vI i1), (2, vI i2), (5, vI i5)]) dX3_since_96 rfl rfl (Nat.le_of_ble_eq_true rfl) rfl ?_
        refine wp_iinc (n := 100) (i := 5) (q := 5) (v := i5 + 1) (ls' := [(5, vI (i5 + 1)), (3, vL (l3 + (Int32.toInt64 x89))), (6, vI x46), (0, vR (some h0)), (1, vI i1), (2, vI i2)]) dX3_since_97 rfl rfl rfl (Nat.le_of_ble_eq_true rfl) rfl ?_
        refine wp_goto (t := 25) dX3_since_100 (by decide) ?_
        exact wp_sub [3, 4, 5, 1, 0] rfl h
set_option maxHeartbeats 1000000 in
theorem sg_X3_slot_0 {h0 : Nat} {i1 : Int32} {i2 : Int32} {rc rs : Nat} {QR : Option aV → aW → Prop} {QX : String → aW → Prop} {w : aW} (h : ct (KX3_in) 0 0 [vI i2, vI 0, vI 11] w (fun v4 w4 => ∃ x4 : Int32, v4 = some (vI x4) ∧ (¬ x4 = 0 → isO w4 h0 3 ∧ ct (KX3_askedSlots) 0 0 [vR (some h0), vI i1] w4 (fun v15 w15 => ∃ x15 : Int32, v15 = some (vI x15) ∧ (x15 = 0 → ∃ x28 : Nat, gf w15 h0 [3] 1 (vR (some x28)) ∧ ∃ x40 : Int32, gI w15 x28 ((122 + (12 * i1)) + i2) x40 ∧ QR (some (vI x40)) w15) ∧ (¬ x15 = 0 → QR (some (vI x15)) w15)) (fun E15 w15 => False)) ∧ (x4 = 0 → QR (some (vI (-2))) w4)) (fun E4 w4 => False)) : wp (KX3_slot) rc rs QR QX 0 [(0, vR (some h0)), (1, vI i1), (2, vI i2)] [] w := by
  refine wp_iload_n (n := 1) (i := 2) (q := 2) dX3_slot_0 rfl rfl rfl ?_
  refine wp_iconst (n := 2) (v := 0) dX3_slot_1 rfl (by decide) ?_
  refine wp_bipush (n := 4) (v := 11) dX3_slot_2 rfl (by decide) ?_
  refine wp_call (n := 7) (K' := KX3_in) (rc' := rc) (rs' := rs) (aRun_S (K' := KX3_in) (As := [vI i2, vI 0, vI 11]) (rest := []) dX3_slot_4 (aCal_of kf_X3_in (Nat.le_of_ble_eq_true rfl)) rfl q1077 q1078 ar_X3_in rfl (Nat.le_of_ble_eq_true rfl)) rfl (Nat.le_of_eq (Nat.zero_add _)) (Nat.le_of_eq (Nat.zero_add _)) (fun v4 w4 h => ?_) (fun E4 w4 h => ?_) h
  · obtain ⟨x4, rfl, h⟩ := h
    refine wp_if_ne (n := 10) (t := 13) dX3_slot_7 rfl (by decide) (fun c7 => ?_) (fun c7 => ?_)
    · replace h := h.1 c7
      refine wp_aload_n (n := 14) (i := 0) (q := 0) dX3_slot_13 rfl rfl rfl ?_
      refine wp_iload_n (n := 15) (i := 1) (q := 1) dX3_slot_14 rfl rfl rfl ?_
      obtain ⟨⟨fs15, o15⟩, h⟩ := h
      refine wp_call (n := 18) (K' := KX3_askedSlots) (rc' := rc) (rs' := rs) (aRun_V (K' := KX3_askedSlots) (As := [vI i1]) (rest := []) (b := h0) (c0 := .inr (3, fs15)) dX3_slot_15 (aCal_of kf_X3_askedSlots (Nat.le_of_ble_eq_true rfl)) q1216 q1218 qs72 ar_X3_askedSlots o15 (by decide : 3 < 9) rfl (Nat.le_of_ble_eq_true rfl)) rfl (Nat.le_of_eq (Nat.zero_add _)) (Nat.le_of_eq (Nat.zero_add _)) (fun v15 w15 h => ?_) (fun E15 w15 h => ?_) h
      · obtain ⟨x15, rfl, h⟩ := h
        refine wp_istore_n (n := 19) (i := 3) (ls' := [(3, vI x15), (0, vR (some h0)), (1, vI i1), (2, vI i2)]) dX3_slot_18 rfl rfl (Nat.le_of_ble_eq_true rfl) rfl ?_
        refine wp_iload_n (n := 20) (i := 3) (q := 0) dX3_slot_19 rfl rfl rfl ?_
        refine wp_if_eq (n := 23) (t := 27) dX3_slot_20 rfl (by decide) (fun c20 => ?_) (fun c20 => ?_)
        · replace h := h.1 c20
          refine wp_aload_n (n := 28) (i := 0) (q := 1) dX3_slot_27 rfl rfl rfl ?_
          obtain ⟨x28, g28, h⟩ := h
          refine wp_gf (n := 31) dX3_slot_28 rfl fl_X3_7 g28 ?_
          refine wp_bipush (n := 33) (v := 122) dX3_slot_31 rfl (by decide) ?_
          refine wp_bipush (n := 35) (v := 12) dX3_slot_33 rfl (by decide) ?_
          refine wp_iload_n (n := 36) (i := 1) (q := 2) dX3_slot_35 rfl rfl rfl ?_
          refine wp_imul (n := 37) dX3_slot_36 rfl ?_
          refine wp_iadd (n := 38) dX3_slot_37 rfl ?_
          refine wp_iload_n (n := 39) (i := 2) (q := 3) dX3_slot_38 rfl rfl rfl ?_
          refine wp_iadd (n := 40) dX3_slot_39 rfl ?_
          obtain ⟨x40, g40, h⟩ := h
          refine wp_gI (n := 41) dX3_slot_40 rfl g40 ?_
          exact wp_ireturn dX3_slot_41 rfl h
        · replace h := h.2 c20
          refine wp_iload_n (n := 24) (i := 3) (q := 0) dX3_slot_23 rfl rfl rfl ?_
          refine wp_goto (t := 41) dX3_slot_24 (by decide) ?_
          exact wp_ireturn dX3_slot_41 rfl h
      · exact h.elim
    · replace h := h.2 c7
      refine wp_bipush (n := 12) (v := (-2)) dX3_slot_10 rfl (by decide) ?_
      exact wp_ireturn dX3_slot_12 rfl h
  · exact h.elim
set_option maxHeartbeats 1000000 in
theorem sg_X3_space_0 {h0 : Nat} {i1 : Int32} {rc rs : Nat} {QR : Option aV → aW → Prop} {QX : String → aW → Prop} {w : aW} (h : isO w h0 3 ∧ ct (KX3_hasSlots) 0 0 [vR (some h0), vI i1] w (fun v2 w2 => ∃ x2 : Int32, v2 = some (vI x2) ∧ (x2 = 0 → QR (some (vL (-4611686018427387904))) w2) ∧ (¬ x2 = 0 → isO w2 h0 3 ∧ ct (KX3_spaceOf) 0 0 [vR (some h0), vI i1] w2 (fun v10 w10 => ∃ x10 : Int64, v10 = some (vL x10) ∧ QR (some (vL x10)) w10) (fun E10 w10 => False))) (fun E2 w2 => False)) : wp (KX3_space) rc rs QR QX 0 [(0, vR (some h0)), (1, vI i1)] [] w := by
  refine wp_aload_n (n := 1) (i := 0) (q := 0) dX3_space_0 rfl rfl rfl ?_
  refine wp_iload_n (n := 2) (i := 1) (q := 1) dX3_space_1 rfl rfl rfl ?_
  obtain ⟨⟨fs2, o2⟩, h⟩ := h
  refine wp_call (n := 5) (K' := KX3_hasSlots) (rc' := rc) (rs' := rs) (aRun_V (K' := KX3_hasSlots) (As := [vI i1]) (rest := []) (b := h0) (c0 := .inr (3, fs2)) dX3_space_2 (aCal_of kf_X3_hasSlots (Nat.le_of_ble_eq_true rfl)) q1131 q1133 qs62 ar_X3_hasSlots o2 (by decide : 3 < 9) rfl (Nat.le_of_ble_eq_true rfl)) rfl (Nat.le_of_eq (Nat.zero_add _)) (Nat.le_of_eq (Nat.zero_add _)) (fun v2 w2 h => ?_) (fun E2 w2 h => ?_) h
  · obtain ⟨x2, rfl, h⟩ := h
    refine wp_if_eq (n := 8) (t := 16) dX3_space_5 rfl (by decide) (fun c5 => ?_) (fun c5 => ?_)
    · replace h := h.1 c5
      refine wp_ldc2 (n := 19) dX3_space_16 rfl q1248 ?_
      exact wp_lreturn dX3_space_19 rfl h
    · replace h := h.2 c5
      refine wp_aload_n (n := 9) (i := 0) (q := 0) dX3_space_8 rfl rfl rfl ?_
      refine wp_iload_n (n := 10) (i := 1) (q := 1) dX3_space_9 rfl rfl rfl ?_
      obtain ⟨⟨fs10, o10⟩, h⟩ := h
      refine wp_call (n := 13) (K' := KX3_spaceOf) (rc' := rc) (rs' := rs) (aRun_V (K' := KX3_spaceOf) (As := [vI i1]) (rest := []) (b := h0) (c0 := .inr (3, fs10)) dX3_space_10 (aCal_of kf_X3_spaceOf (Nat.le_of_ble_eq_true rfl)) q1115 q1117 qs58 ar_X3_spaceOf o10 (by decide : 3 < 9) rfl (Nat.le_of_ble_eq_true rfl)) rfl (Nat.le_of_eq (Nat.zero_add _)) (Nat.le_of_eq (Nat.zero_add _)) (fun v10 w10 h => ?_) (fun E10 w10 h => ?_) h
      · obtain ⟨x10, rfl, h⟩ := h
        refine wp_goto (t := 19) dX3_space_13 (by decide) ?_
        exact wp_lreturn dX3_space_19 rfl h
      · exact h.elim
  · exact h.elim
set_option maxHeartbeats 1000000 in
theorem sg_X3_tag_0 {h0 : Nat} {i1 : Int32} {i2 : Int32} {rc rs : Nat} {QR : Option aV → aW → Prop} {QX : String → aW → Prop} {w : aW} (h : ct (KX3_in) 0 0 [vI i2, vI 0, vI 9] w (fun v4 w4 => ∃ x4 : Int32, v4 = some (vI x4) ∧ (¬ x4 = 0 → isO w4 h0 3 ∧ ct (KX3_asked) 0 0 [vR (some h0), vI i1, vI 3] w4 (fun v16 w16 => ∃ x16 : Int32, v16 = some (vI x16) ∧ (x16 = 0 → ∃ x27 : Nat, gf w16 h0 [3] 1 (vR (some x27)) ∧ ∃ x34 : Int32, gI w16 x27 (102 + i1) x34 ∧ ∃ x38 : Nat, gf w16 h0 [3] 1 (vR (some x38)) ∧ pI w16 x38 (102 + i1) i2 (fun w46 => QR (some (vI x34)) w46)) ∧ (¬ x16 = 0 → QR (some (vI x16)) w16)) (fun E16 w16 => False)) ∧ (x4 = 0 → QR (some (vI (-2))) w4)) (fun E4 w4 => False)) : wp (KX3_tag) rc rs QR QX 0 [(0, vR (some h0)), (1, vI i1), (2, vI i2)] [] w := by
  refine wp_iload_n (n := 1) (i := 2) (q := 2) dX3_tag_0 rfl rfl rfl ?_
  refine wp_iconst (n := 2) (v := 0) dX3_tag_1 rfl (by decide) ?_
  refine wp_bipush (n := 4) (v := 9) dX3_tag_2 rfl (by decide) ?_
  refine wp_call (n := 7) (K' := KX3_in) (rc' := rc) (rs' := rs) (aRun_S (K' := KX3_in) (As := [vI i2, vI 0, vI 9]) (rest := []) dX3_tag_4 (aCal_of kf_X3_in (Nat.le_of_ble_eq_true rfl)) rfl q1077 q1078 ar_X3_in rfl (Nat.le_of_ble_eq_true rfl)) rfl (Nat.le_of_eq (Nat.zero_add _)) (Nat.le_of_eq (Nat.zero_add _)) (fun v4 w4 h => ?_) (fun E4 w4 h => ?_) h
  · obtain ⟨x4, rfl, h⟩ := h
    refine wp_if_ne (n := 10) (t := 13) dX3_tag_7 rfl (by decide) (fun c7 => ?_) (fun c7 => ?_)
    · replace h := h.1 c7
      refine wp_aload_n (n := 14) (i := 0) (q := 0) dX3_tag_13 rfl rfl rfl ?_
      refine wp_iload_n (n := 15) (i := 1) (q := 1) dX3_tag_14 rfl rfl rfl ?_
      refine wp_iconst (n := 16) (v := 3) dX3_tag_15 rfl (by decide) ?_
      obtain ⟨⟨fs16, o16⟩, h⟩ := h
      refine wp_call (n := 19) (K' := KX3_asked) (rc' := rc) (rs' := rs) (aRun_V (K' := KX3_asked) (As := [vI i1, vI 3]) (rest := []) (b := h0) (c0 := .inr (3, fs16)) dX3_tag_16 (aCal_of kf_X3_asked (Nat.le_of_ble_eq_true rfl)) q1092 q1094 qs53 ar_X3_asked o16 (by decide : 3 < 9) rfl (Nat.le_of_ble_eq_true rfl)) rfl (Nat.le_of_eq (Nat.zero_add _)) (Nat.le_of_eq (Nat.zero_add _)) (fun v16 w16 h => ?_) (fun E16 w16 h => ?_) h
      · obtain ⟨x16, rfl, h⟩ := h
        refine wp_istore_n (n := 20) (i := 3) (ls' := [(3, vI x16), (0, vR (some h0)), (1, vI i1), (2, vI i2)]) dX3_tag_19 rfl rfl (Nat.le_of_ble_eq_true rfl) rfl ?_
        refine wp_iload_n (n := 21) (i := 3) (q := 0) dX3_tag_20 rfl rfl rfl ?_
        refine wp_if_eq (n := 24) (t := 26) dX3_tag_21 rfl (by decide) (fun c21 => ?_) (fun c21 => ?_)
        · replace h := h.1 c21
          refine wp_aload_n (n := 27) (i := 0) (q := 1) dX3_tag_26 rfl rfl rfl ?_
          obtain ⟨x27, g27, h⟩ := h
          refine wp_gf (n := 30) dX3_tag_27 rfl fl_X3_7 g27 ?_
          refine wp_bipush (n := 32) (v := 102) dX3_tag_30 rfl (by decide) ?_
          refine wp_iload_n (n := 33) (i := 1) (q := 2) dX3_tag_32 rfl rfl rfl ?_
          refine wp_iadd (n := 34) dX3_tag_33 rfl ?_
          obtain ⟨x34, g34, h⟩ := h
          refine wp_gI (n := 35) dX3_tag_34 rfl g34 ?_
          refine wp_istore (n := 37) (i := 4) (ls' := [(4, vI x34), (3, vI x16), (0, vR (some h0)), (1, vI i1), (2, vI i2)]) dX3_tag_35 rfl (Nat.le_of_ble_eq_true rfl) rfl ?_
          refine wp_aload_n (n := 38) (i := 0) (q := 2) dX3_tag_37 rfl rfl rfl ?_
          obtain ⟨x38, g38, h⟩ := h
          refine wp_gf (n := 41) dX3_tag_38 rfl fl_X3_7 g38 ?_
          refine wp_bipush (n := 43) (v := 102) dX3_tag_41 rfl (by decide) ?_
          refine wp_iload_n (n := 44) (i := 1) (q := 3) dX3_tag_43 rfl rfl rfl ?_
          refine wp_iadd (n := 45) dX3_tag_44 rfl ?_
          refine wp_iload_n (n := 46) (i := 2) (q := 4) dX3_tag_45 rfl rfl rfl ?_
          refine wp_pI (n := 47) dX3_tag_46 rfl (pI_mono h (fun w46 h => ?_))
          refine wp_iload (n := 49) (i := 4) (q := 0) dX3_tag_47 rfl rfl ?_
          exact wp_ireturn dX3_tag_49 rfl h
        · replace h := h.2 c21
          refine wp_iload_n (n := 25) (i := 3) (q := 0) dX3_tag_24 rfl rfl rfl ?_
          exact wp_ireturn dX3_tag_25 rfl h
      · exact h.elim
    · replace h := h.2 c7
      refine wp_bipush (n := 12) (v := (-2)) dX3_tag_10 rfl (by decide) ?_
      exact wp_ireturn dX3_tag_12 rfl h
  · exact h.elim
set_option maxHeartbeats 1000000 in
theorem sg_X3_taken_0 {h0 : Nat} {i1 : Int32} {i2 : Int32} {rc rs : Nat} {QR : Option aV → aW → Prop} {QX : String → aW → Prop} {w : aW} (h : ct (KX3_in) 0 0 [vI i2, vI 0, vI 4] w (fun v3 w3 => ∃ x3 : Int32, v3 = some (vI x3) ∧ (¬ x3 = 0 → isO w3 h0 3 ∧ ct (KX3_asked) 0 0 [vR (some h0), vI i1, vI i2] w3 (fun v15 w15 => ∃ x15 : Int32, v15 = some (vI x15) ∧ (x15 = 0 → ∃ x28 : Nat, gf w15 h0 [3] 1 (vR (some x28)) ∧ ∃ x35 : Int32, gI w15 x28 (22 + i1) x35 ∧ QR (some (vI x35)) w15) ∧ (¬ x15 = 0 → QR (some (vI x15)) w15)) (fun E15 w15 => False)) ∧ (x3 = 0 → QR (some (vI (-2))) w3)) (fun E3 w3 => False)) : wp (KX3_taken) rc rs QR QX 0 [(0, vR (some h0)), (1, vI i1), (2, vI i2)] [] w := by
  refine wp_iload_n (n := 1) (i := 2) (q := 2) dX3_taken_0 rfl rfl rfl ?_
  refine wp_iconst (n := 2) (v := 0) dX3_taken_1 rfl (by decide) ?_
  refine wp_iconst (n := 3) (v := 4) dX3_taken_2 rfl (by decide) ?_
  refine wp_call (n := 6) (K' := KX3_in) (rc' := rc) (rs' := rs) (aRun_S (K' := KX3_in) (As := [vI i2, vI 0, vI 4]) (rest := []) dX3_taken_3 (aCal_of kf_X3_in (Nat.le_of_ble_eq_true rfl)) rfl q1077 q1078 ar_X3_in rfl (Nat.le_of_ble_eq_true rfl)) rfl (Nat.le_of_eq (Nat.zero_add _)) (Nat.le_of_eq (Nat.zero_add _)) (fun v3 w3 h => ?_) (fun E3 w3 h => ?_) h
  · obtain ⟨x3, rfl, h⟩ := h
    refine wp_if_ne (n := 9) (t := 12) dX3_taken_6 rfl (by decide) (fun c6 => ?_) (fun c6 => ?_)
    · replace h := h.1 c6
      refine wp_aload_n (n := 13) (i := 0) (q := 0) dX3_taken_12 rfl rfl rfl ?_
      refine wp_iload_n (n := 14) (i := 1) (q := 1) dX3_taken_13 rfl rfl rfl ?_
      refine wp_iload_n (n := 15) (i := 2) (q := 2) dX3_taken_14 rfl rfl rfl ?_
      obtain ⟨⟨fs15, o15⟩, h⟩ := h
      refine wp_call (n := 18) (K' := KX3_asked) (rc' := rc) (rs' := rs) (aRun_V (K' := KX3_asked) (As := [vI i1, vI i2]) (rest := []) (b := h0) (c0 := .inr (3, fs15)) dX3_taken_15 (aCal_of kf_X3_asked (Nat.le_of_ble_eq_true rfl)) q1092 q1094 qs53 ar_X3_asked o15 (by decide : 3 < 9) rfl (Nat.le_of_ble_eq_true rfl)) rfl (Nat.le_of_eq (Nat.zero_add _)) (Nat.le_of_eq (Nat.zero_add _)) (fun v15 w15 h => ?_) (fun E15 w15 h => ?_) h
      · obtain ⟨x15, rfl, h⟩ := h
        refine wp_istore_n (n := 19) (i := 3) (ls' := [(3, vI x15), (0, vR (some h0)), (1, vI i1), (2, vI i2)]) dX3_taken_18 rfl rfl (Nat.le_of_ble_eq_true rfl) rfl ?_
        refine wp_iload_n (n := 20) (i := 3) (q := 0) dX3_taken_19 rfl rfl rfl ?_
        refine wp_if_eq (n := 23) (t := 27) dX3_taken_20 rfl (by decide) (fun c20 => ?_) (fun c20 => ?_)
        · replace h := h.1 c20
          refine wp_aload_n (n := 28) (i := 0) (q := 1) dX3_taken_27 rfl rfl rfl ?_
          obtain ⟨x28, g28, h⟩ := h
          refine wp_gf (n := 31) dX3_taken_28 rfl fl_X3_7 g28 ?_
          refine wp_bipush (n := 33) (v := 22) dX3_taken_31 rfl (by decide) ?_
          refine wp_iload_n (n := 34) (i := 1) (q := 2) dX3_taken_33 rfl rfl rfl ?_
          refine wp_iadd (n := 35) dX3_taken_34 rfl ?_
          obtain ⟨x35, g35, h⟩ := h
          refine wp_gI (n := 36) dX3_taken_35 rfl g35 ?_
          exact wp_ireturn dX3_taken_36 rfl h
        · replace h := h.2 c20
          refine wp_iload_n (n := 24) (i := 3) (q := 0) dX3_taken_23 rfl rfl rfl ?_
          refine wp_goto (t := 36) dX3_taken_24 (by decide) ?_
          exact wp_ireturn dX3_taken_36 rfl h
      · exact h.elim
    · replace h := h.2 c6
      refine wp_bipush (n := 11) (v := (-2)) dX3_taken_9 rfl (by decide) ?_
      exact wp_ireturn dX3_taken_11 rfl h
  · exact h.elim
set_option maxHeartbeats 1000000 in
theorem sg_X3_tick_0 {h0 : Nat} {rc rs : Nat} {QR : Option aV → aW → Prop} {QX : String → aW → Prop} {w : aW} (h : ∃ x1 : Nat, gf w h0 [3] 1 (vR (some x1)) ∧ ∃ x5 : Int32, gI w x1 0 x5 ∧ (x5 < 100000 → ∃ x15 : Nat, gf w h0 [3] 1 (vR (some x15)) ∧ ∃ x20 : Int32, gI w x15 0 x20 ∧ pI w x15 0 (x20 + 1) (fun w23 => ∃ x25 : Nat, gf w23 h0 [3] 1 (vR (some x25)) ∧ ∃ x29 : Int32, gI w23 x25 0 x29 ∧ QR (some (vI x29)) w23)) ∧ (¬ x5 < 100000 → QR (some (vI (-3))) w)) : wp (KX3_tick) rc rs QR QX 0 [(0, vR (some h0))] [] w := by
  refine wp_aload_n (n := 1) (i := 0) (q := 0) dX3_tick_0 rfl rfl rfl ?_
  obtain ⟨x1, g1, h⟩ := h
  refine wp_gf (n := 4) dX3_tick_1 rfl fl_X3_7 g1 ?_
  refine wp_iconst (n := 5) (v := 0) dX3_tick_4 rfl (by decide) ?_
  obtain ⟨x5, g5, h⟩ := h
  refine wp_gI (n := 6) dX3_tick_5 rfl g5 ?_
  refine wp_ldc (n := 8) dX3_tick_6 rfl q1203 ?_
  refine wp_icmp_lt (n := 11) (t := 14) dX3_tick_8 rfl (by decide) (fun c8 => ?_) (fun c8 => ?_)
  · replace h := h.1 c8
    refine wp_aload_n (n := 15) (i := 0) (q := 0) dX3_tick_14 rfl rfl rfl ?_
    obtain ⟨x15, g15, h⟩ := h
    refine wp_gf (n := 18) dX3_tick_15 rfl fl_X3_7 g15 ?_
    refine wp_iconst (n := 19) (v := 0) dX3_tick_18 rfl (by decide) ?_
    refine wp_dup2_11 (n := 20) dX3_tick_19 rfl rfl rfl ?_
    obtain ⟨x20, g20, h⟩ := h
    refine wp_gI (n := 21) dX3_tick_20 rfl g20 ?_
    refine wp_iconst (n := 22) (v := 1) dX3_tick_21 rfl (by decide) ?_
    refine wp_iadd (n := 23) dX3_tick_22 rfl ?_
    refine wp_pI (n := 24) dX3_tick_23 rfl (pI_mono h (fun w23 h => ?_))
    refine wp_aload_n (n := 25) (i := 0) (q := 0) dX3_tick_24 rfl rfl rfl ?_
    obtain ⟨x25, g25, h⟩ := h
    refine wp_gf (n := 28) dX3_tick_25 rfl fl_X3_7 g25 ?_
    refine wp_iconst (n := 29) (v := 0) dX3_tick_28 rfl (by decide) ?_
    obtain ⟨x29, g29, h⟩ := h
    refine wp_gI (n := 30) dX3_tick_29 rfl g29 ?_
    exact wp_ireturn dX3_tick_30 rfl h
  · replace h := h.2 c8
    refine wp_bipush (n := 13) (v := (-3)) dX3_tick_11 rfl (by decide) ?_
    exact wp_ireturn dX3_tick_13 rfl h
set_option maxHeartbeats 1000000 in
theorem sg_X3_told_0 {h0 : Nat} {i1 : Int32} {i2 : Int32} {rc rs : Nat} {QR : Option aV → aW → Prop} {QX : String → aW → Prop} {w : aW} (h : ct (KX3_in) 0 0 [vI i2, vI 0, vI 9] w (fun v4 w4 => ∃ x4 : Int32, v4 = some (vI x4) ∧ (¬ x4 = 0 → isO w4 h0 3 ∧ ct (KX3_there) 0 0 [vR (some h0), vI i1] w4 (fun v15 w15 => ∃ x15 : Int32, v15 = some (vI x15) ∧ (x15 = 0 → (i2 = 0 → ∃ x77 : Nat, gf w15 h0 [3] 1 (vR (some x77)) ∧ ∃ x83 : Int32, gI w15 x77 (2 + i1) x83 ∧ QR (some (vI x83)) w15) ∧ (i2 = 1 → ∃ x86 : Nat, gf w15 h0 [3] 1 (vR (some x86)) ∧ ∃ x93 : Int32, gI w15 x86 (22 + i1) x93 ∧ QR (some (vI x93)) w15) ∧ (i2 = 2 → ∃ x96 : Nat, gf w15 h0 [3] 1 (vR (some x96)) ∧ ∃ x103 : Int32, gI w15 x96 (42 + i1) x103 ∧ QR (some (vI x103)) w15) ∧ (i2 = 3 → ∃ x106 : Nat, gf w15 h0 [3] 1 (vR (some x106)) ∧ ∃ x113 : Int32, gI w15 x106 (62 + i1) x113 ∧ QR (some (vI x113)) w15) ∧ (i2 = 4 → isO w15 h0 3 ∧ ct (KX3_isFiles) 0 0 [vR (some h0), vI i1] w15 (fun v117 w117 => ∃ x117 : Int32, v117 = some (vI x117) ∧ (x117 = 0 → QR (some (vI (-1))) w117) ∧ (¬ x117 = 0 → isO w117 h0 3 ∧ ct (KX3_originOf) 0 0 [vR (some h0), vI i1] w117 (fun v125 w125 => ∃ x125 : Int32, v125 = some (vI x125) ∧ QR (some (vI x125)) w125) (fun E125 w125 => False))) (fun E117 w117 => False)) ∧ (i2 = 5 → isO w15 h0 3 ∧ ct (KX3_nexts) 0 0 [vR (some h0), vI i1] w15 (fun v135 w135 => ∃ x135 : Int32, v135 = some (vI x135) ∧ QR (some (vI x135)) w135) (fun E135 w135 => False)) ∧ (i2 = 6 → isO w15 h0 3 ∧ ct (KX3_heldMany) 0 0 [vR (some h0), vI i1] w15 (fun v141 w141 => ∃ x141 : Int32, v141 = some (vI x141) ∧ QR (some (vI x141)) w141) (fun E141 w141 => False)) ∧ (i2 = 7 → ∃ x146 : Nat, gf w15 h0 [3] 1 (vR (some x146)) ∧ ∃ x153 : Int32, gI w15 x146 (102 + i1) x153 ∧ QR (some (vI x153)) w15) ∧ (i2 = 8 → ∃ x156 : Nat, gf w15 h0 [3] 1 (vR (some x156)) ∧ ∃ x163 : Int32, gI w15 x156 (82 + i1) x163 ∧ QR (some (vI x163)) w15) ∧ (¬ i2 = 0 → ¬ i2 = 1 → ¬ i2 = 2 → ¬ i2 = 3 → ¬ i2 = 4 → ¬ i2 = 5 → ¬ i2 = 6 → ¬ i2 = 7 → ¬ i2 = 8 → isO w15 h0 3 ∧ ct (KX3_owned) 0 0 [vR (some h0), vI i1] w15 (fun v167 w167 => ∃ x167 : Int32, v167 = some (vI x167) ∧ QR (some (vI x167)) w167) (fun E167 w167 => False))) ∧ (¬ x15 = 0 → QR (some (vI x15)) w15)) (fun E15 w15 => False)) ∧ (x4 = 0 → QR (some (vI (-2))) w4)) (fun E4 w4 => False)) : wp (KX3_told) rc rs QR QX 0 [(0, vR (some h0)), (1, vI i1), (2, vI i2)] [] w := by
  refine wp_iload_n (n := 1) (i := 2) (q := 2) dX3_told_0 rfl rfl rfl ?_
  refine wp_iconst (n := 2) (v := 0) dX3_told_1 rfl (by decide) ?_
  refine wp_bipush (n := 4) (v := 9) dX3_told_2 rfl (by decide) ?_
  refine wp_call (n := 7) (K' := KX3_in) (rc' := rc) (rs' := rs) (aRun_S (K' := KX3_in) (As := [vI i2, vI 0, vI 9]) (rest := []) dX3_told_4 (aCal_of kf_X3_in (Nat.le_of_ble_eq_true rfl)) rfl q1077 q1078 ar_X3_in rfl (Nat.le_of_ble_eq_true rfl)) rfl (Nat.le_of_eq (Nat.zero_add _)) (Nat.le_of_eq (Nat.zero_add _)) (fun v4 w4 h => ?_) (fun E4 w4 h => ?_) h
  · obtain ⟨x4, rfl, h⟩ := h
    refine wp_if_ne (n := 10) (t := 13) dX3_told_7 rfl (by decide) (fun c7 => ?_) (fun c7 => ?_)
    · replace h := h.1 c7
      refine wp_aload_n (n := 14) (i := 0) (q := 0) dX3_told_13 rfl rfl rfl ?_
      refine wp_iload_n (n := 15) (i := 1) (q := 1) dX3_told_14 rfl rfl rfl ?_
      obtain ⟨⟨fs15, o15⟩, h⟩ := h
      refine wp_call (n := 18) (K' := KX3_there) (rc' := rc) (rs' := rs) (aRun_V (K' := KX3_there) (As := [vI i1]) (rest := []) (b := h0) (c0 := .inr (3, fs15)) dX3_told_15 (aCal_of kf_X3_there (Nat.le_of_ble_eq_true rfl)) q1096 q1098 qs54 ar_X3_there o15 (by decide : 3 < 9) rfl (Nat.le_of_ble_eq_true rfl)) rfl (Nat.le_of_eq (Nat.zero_add _)) (Nat.le_of_eq (Nat.zero_add _)) (fun v15 w15 h => ?_) (fun E15 w15 h => ?_) h
      · obtain ⟨x15, rfl, h⟩ := h
        refine wp_istore_n (n := 19) (i := 3) (ls' := [(3, vI x15), (0, vR (some h0)), (1, vI i1), (2, vI i2)]) dX3_told_18 rfl rfl (Nat.le_of_ble_eq_true rfl) rfl ?_
        refine wp_iload_n (n := 20) (i := 3) (q := 0) dX3_told_19 rfl rfl rfl ?_
        refine wp_if_eq (n := 23) (t := 25) dX3_told_20 rfl (by decide) (fun c20 => ?_) (fun c20 => ?_)
        · replace h := h.1 c20
          refine wp_iload_n (n := 26) (i := 2) (q := 3) dX3_told_25 rfl rfl rfl ?_
          by_cases e26_0 : i2 = 0
          · replace h := h.1 e26_0
            refine wp_tableIn (t := 76) dX3_told_26 (by rw [e26_0]; decide) (by rw [e26_0]; decide) (off := 50) (by rw [e26_0]; decide) (by decide) ?_
            refine wp_aload_n (n := 77) (i := 0) (q := 1) dX3_told_76 rfl rfl rfl ?_
            obtain ⟨x77, g77, h⟩ := h
            refine wp_gf (n := 80) dX3_told_77 rfl fl_X3_7 g77 ?_
            refine wp_iconst (n := 81) (v := 2) dX3_told_80 rfl (by decide) ?_
            refine wp_iload_n (n := 82) (i := 1) (q := 2) dX3_told_81 rfl rfl rfl ?_
            refine wp_iadd (n := 83) dX3_told_82 rfl ?_
            obtain ⟨x83, g83, h⟩ := h
            refine wp_gI (n := 84) dX3_told_83 rfl g83 ?_
            exact wp_ireturn dX3_told_84 rfl h
          by_cases e26_1 : i2 = 1
          · replace h := h.2.1 e26_1
            refine wp_tableIn (t := 85) dX3_told_26 (by rw [e26_1]; decide) (by rw [e26_1]; decide) (off := 59) (by rw [e26_1]; decide) (by decide) ?_
            refine wp_aload_n (n := 86) (i := 0) (q := 1) dX3_told_85 rfl rfl rfl ?_
            obtain ⟨x86, g86, h⟩ := h
            refine wp_gf (n := 89) dX3_told_86 rfl fl_X3_7 g86 ?_
            refine wp_bipush (n := 91) (v := 22) dX3_told_89 rfl (by decide) ?_
            refine wp_iload_n (n := 92) (i := 1) (q := 2) dX3_told_91 rfl rfl rfl ?_
            refine wp_iadd (n := 93) dX3_told_92 rfl ?_
            obtain ⟨x93, g93, h⟩ := h
            refine wp_gI (n := 94) dX3_told_93 rfl g93 ?_
            exact wp_ireturn dX3_told_94 rfl h
          by_cases e26_2 : i2 = 2
          · replace h := h.2.2.1 e26_2
            refine wp_tableIn (t := 95) dX3_told_26 (by rw [e26_2]; decide) (by rw [e26_2]; decide) (off := 69) (by rw [e26_2]; decide) (by decide) ?_
            refine wp_aload_n (n := 96) (i := 0) (q := 1) dX3_told_95 rfl rfl rfl ?_
            obtain ⟨x96, g96, h⟩ := h
            refine wp_gf (n := 99) dX3_told_96 rfl fl_X3_7 g96 ?_
            refine wp_bipush (n := 101) (v := 42) dX3_told_99 rfl (by decide) ?_
            refine wp_iload_n (n := 102) (i := 1) (q := 2) dX3_told_101 rfl rfl rfl ?_
            refine wp_iadd (n := 103) dX3_told_102 rfl ?_
            obtain ⟨x103, g103, h⟩ := h
            refine wp_gI (n := 104) dX3_told_103 rfl g103 ?_
            exact wp_ireturn dX3_told_104 rfl h
          by_cases e26_3 : i2 = 3
          · replace h := h.2.2.2.1 e26_3
            refine wp_tableIn (t := 105) dX3_told_26 (by rw [e26_3]; decide) (by rw [e26_3]; decide) (off := 79) (by rw [e26_3]; decide) (by decide) ?_
            refine wp_aload_n (n := 106) (i := 0) (q := 1) dX3_told_105 rfl rfl rfl ?_
            obtain ⟨x106, g106, h⟩ := h
            refine wp_gf (n := 109) dX3_told_106 rfl fl_X3_7 g106 ?_
            refine wp_bipush (n := 111) (v := 62) dX3_told_109 rfl (by decide) ?_
            refine wp_iload_n (n := 112) (i := 1) (q := 2) dX3_told_111 rfl rfl rfl ?_
            refine wp_iadd (n := 113) dX3_told_112 rfl ?_
            obtain ⟨x113, g113, h⟩ := h
            refine wp_gI (n := 114) dX3_told_113 rfl g113 ?_
            exact wp_ireturn dX3_told_114 rfl h
          by_cases e26_4 : i2 = 4
          · replace h := h.2.2.2.2.1 e26_4
            refine wp_tableIn (t := 115) dX3_told_26 (by rw [e26_4]; decide) (by rw [e26_4]; decide) (off := 89) (by rw [e26_4]; decide) (by decide) ?_
            refine wp_aload_n (n := 116) (i := 0) (q := 1) dX3_told_115 rfl rfl rfl ?_
            refine wp_iload_n (n := 117) (i := 1) (q := 2) dX3_told_116 rfl rfl rfl ?_
            obtain ⟨⟨fs117, o117⟩, h⟩ := h
            refine wp_call (n := 120) (K' := KX3_isFiles) (rc' := rc) (rs' := rs) (aRun_V (K' := KX3_isFiles) (As := [vI i1]) (rest := []) (b := h0) (c0 := .inr (3, fs117)) dX3_told_117 (aCal_of kf_X3_isFiles (Nat.le_of_ble_eq_true rfl)) q1135 q1137 qs63 ar_X3_isFiles o117 (by decide : 3 < 9) rfl (Nat.le_of_ble_eq_true rfl)) rfl (Nat.le_of_eq (Nat.zero_add _)) (Nat.le_of_eq (Nat.zero_add _)) (fun v117 w117 h => ?_) (fun E117 w117 h => ?_) h
            · obtain ⟨x117, rfl, h⟩ := h
              refine wp_if_eq (n := 123) (t := 131) dX3_told_120 rfl (by decide) (fun c120 => ?_) (fun c120 => ?_)
              · replace h := h.1 c120
                refine wp_iconst (n := 132) (v := (-1)) dX3_told_131 rfl (by decide) ?_
                exact wp_ireturn dX3_told_132 rfl h
              · replace h := h.2 c120
                refine wp_aload_n (n := 124) (i := 0) (q := 1) dX3_told_123 rfl rfl rfl ?_
                refine wp_iload_n (n := 125) (i := 1) (q := 2) dX3_told_124 rfl rfl rfl ?_
                obtain ⟨⟨fs125, o125⟩, h⟩ := h
                refine wp_call (n := 128) (K' := KX3_originOf) (rc' := rc) (rs' := rs) (aRun_V (K' := KX3_originOf) (As := [vI i1]) (rest := []) (b := h0) (c0 := .inr (3, fs125)) dX3_told_125 (aCal_of kf_X3_originOf (Nat.le_of_ble_eq_true rfl)) q1191 q1193 qs70 ar_X3_originOf o125 (by decide : 3 < 9) rfl (Nat.le_of_ble_eq_true rfl)) rfl (Nat.le_of_eq (Nat.zero_add _)) (Nat.le_of_eq (Nat.zero_add _)) (fun v125 w125 h => ?_) (fun E125 w125 h => ?_) h
                · obtain ⟨x125, rfl, h⟩ := h
                  refine wp_goto (t := 132) dX3_told_128 (by decide) ?_
                  exact wp_ireturn dX3_told_132 rfl h
                · exact h.elim
            · exact h.elim
          by_cases e26_5 : i2 = 5
          · replace h := h.2.2.2.2.2.1 e26_5
            refine wp_tableIn (t := 133) dX3_told_26 (by rw [e26_5]; decide) (by rw [e26_5]; decide) (off := 107) (by rw [e26_5]; decide) (by decide) ?_
            refine wp_aload_n (n := 134) (i := 0) (q := 1) dX3_told_133 rfl rfl rfl ?_
            refine wp_iload_n (n := 135) (i := 1) (q := 2) dX3_told_134 rfl rfl rfl ?_
            obtain ⟨⟨fs135, o135⟩, h⟩ := h
            refine wp_call (n := 138) (K' := KX3_nexts) (rc' := rc) (rs' := rs) (aRun_V (K' := KX3_nexts) (As := [vI i1]) (rest := []) (b := h0) (c0 := .inr (3, fs135)) dX3_told_135 (aCal_of kf_X3_nexts (Nat.le_of_ble_eq_true rfl)) q1171 q1173 qs67 ar_X3_nexts o135 (by decide : 3 < 9) rfl (Nat.le_of_ble_eq_true rfl)) rfl (Nat.le_of_eq (Nat.zero_add _)) (Nat.le_of_eq (Nat.zero_add _)) (fun v135 w135 h => ?_) (fun E135 w135 h => ?_) h
            · obtain ⟨x135, rfl, h⟩ := h
              exact wp_ireturn dX3_told_138 rfl h
            · exact h.elim
          by_cases e26_6 : i2 = 6
          · replace h := h.2.2.2.2.2.2.1 e26_6
            refine wp_tableIn (t := 139) dX3_told_26 (by rw [e26_6]; decide) (by rw [e26_6]; decide) (off := 113) (by rw [e26_6]; decide) (by decide) ?_
            refine wp_aload_n (n := 140) (i := 0) (q := 1) dX3_told_139 rfl rfl rfl ?_
            refine wp_iload_n (n := 141) (i := 1) (q := 2) dX3_told_140 rfl rfl rfl ?_
            obtain ⟨⟨fs141, o141⟩, h⟩ := h
            refine wp_call (n := 144) (K' := KX3_heldMany) (rc' := rc) (rs' := rs) (aRun_V (K' := KX3_heldMany) (As := [vI i1]) (rest := []) (b := h0) (c0 := .inr (3, fs141)) dX3_told_141 (aCal_of kf_X3_heldMany (Nat.le_of_ble_eq_true rfl)) q1208 q1210 qs71 ar_X3_heldMany o141 (by decide : 3 < 9) rfl (Nat.le_of_ble_eq_true rfl)) rfl (Nat.le_of_eq (Nat.zero_add _)) (Nat.le_of_eq (Nat.zero_add _)) (fun v141 w141 h => ?_) (fun E141 w141 h => ?_) h
            · obtain ⟨x141, rfl, h⟩ := h
              exact wp_ireturn dX3_told_144 rfl h
            · exact h.elim
          by_cases e26_7 : i2 = 7
          · replace h := h.2.2.2.2.2.2.2.1 e26_7
            refine wp_tableIn (t := 145) dX3_told_26 (by rw [e26_7]; decide) (by rw [e26_7]; decide) (off := 119) (by rw [e26_7]; decide) (by decide) ?_
            refine wp_aload_n (n := 146) (i := 0) (q := 1) dX3_told_145 rfl rfl rfl ?_
            obtain ⟨x146, g146, h⟩ := h
            refine wp_gf (n := 149) dX3_told_146 rfl fl_X3_7 g146 ?_
            refine wp_bipush (n := 151) (v := 102) dX3_told_149 rfl (by decide) ?_
            refine wp_iload_n (n := 152) (i := 1) (q := 2) dX3_told_151 rfl rfl rfl ?_
            refine wp_iadd (n := 153) dX3_told_152 rfl ?_
            obtain ⟨x153, g153, h⟩ := h
            refine wp_gI (n := 154) dX3_told_153 rfl g153 ?_
            exact wp_ireturn dX3_told_154 rfl h
          by_cases e26_8 : i2 = 8
          · replace h := h.2.2.2.2.2.2.2.2.1 e26_8
            refine wp_tableIn (t := 155) dX3_told_26 (by rw [e26_8]; decide) (by rw [e26_8]; decide) (off := 129) (by rw [e26_8]; decide) (by decide) ?_
            refine wp_aload_n (n := 156) (i := 0) (q := 1) dX3_told_155 rfl rfl rfl ?_
            obtain ⟨x156, g156, h⟩ := h
            refine wp_gf (n := 159) dX3_told_156 rfl fl_X3_7 g156 ?_
            refine wp_bipush (n := 161) (v := 82) dX3_told_159 rfl (by decide) ?_
            refine wp_iload_n (n := 162) (i := 1) (q := 2) dX3_told_161 rfl rfl rfl ?_
            refine wp_iadd (n := 163) dX3_told_162 rfl ?_
            obtain ⟨x163, g163, h⟩ := h
            refine wp_gI (n := 164) dX3_told_163 rfl g163 ?_
            exact wp_ireturn dX3_told_164 rfl h
          replace h := h.2.2.2.2.2.2.2.2.2 e26_0 e26_1 e26_2 e26_3 e26_4 e26_5 e26_6 e26_7 e26_8
          have f26 : i2.toInt < 0 ∨ 8 < i2.toInt := by
            by_cases q1 : i2.toInt < 0
            · exact Or.inl q1
            · by_cases q2 : 8 < i2.toInt
              · exact Or.inr q2
              · exfalso
                have q3 : i2.toInt = 0 ∨ i2.toInt = 1 ∨ i2.toInt = 2 ∨ i2.toInt = 3 ∨ i2.toInt = 4 ∨ i2.toInt = 5 ∨ i2.toInt = 6 ∨ i2.toInt = 7 ∨ i2.toInt = 8 := by omega
                rcases q3 with q3 | q3 | q3 | q3 | q3 | q3 | q3 | q3 | q3
                · exact e26_0 (Int32.toInt_inj.mp (q3.trans (by decide)))
                · exact e26_1 (Int32.toInt_inj.mp (q3.trans (by decide)))
                · exact e26_2 (Int32.toInt_inj.mp (q3.trans (by decide)))
                · exact e26_3 (Int32.toInt_inj.mp (q3.trans (by decide)))
                · exact e26_4 (Int32.toInt_inj.mp (q3.trans (by decide)))
                · exact e26_5 (Int32.toInt_inj.mp (q3.trans (by decide)))
                · exact e26_6 (Int32.toInt_inj.mp (q3.trans (by decide)))
                · exact e26_7 (Int32.toInt_inj.mp (q3.trans (by decide)))
                · exact e26_8 (Int32.toInt_inj.mp (q3.trans (by decide)))
          refine wp_tableOut (t := 165) dX3_told_26 f26 (by decide) ?_
          refine wp_aload_n (n := 166) (i := 0) (q := 1) dX3_told_165 rfl rfl rfl ?_
          refine wp_iload_n (n := 167) (i := 1) (q := 2) dX3_told_166 rfl rfl rfl ?_
          obtain ⟨⟨fs167, o167⟩, h⟩ := h
          refine wp_call (n := 170) (K' := KX3_owned) (rc' := rc) (rs' := rs) (aRun_V (K' := KX3_owned) (As := [vI i1]) (rest := []) (b := h0) (c0 := .inr (3, fs167)) dX3_told_167 (aCal_of kf_X3_owned (Nat.le_of_ble_eq_true rfl)) q1175 q1177 qs68 ar_X3_owned o167 (by decide : 3 < 9) rfl (Nat.le_of_ble_eq_true rfl)) rfl (Nat.le_of_eq (Nat.zero_add _)) (Nat.le_of_eq (Nat.zero_add _)) (fun v167 w167 h => ?_) (fun E167 w167 h => ?_) h
          · obtain ⟨x167, rfl, h⟩ := h
            exact wp_ireturn dX3_told_170 rfl h
          · exact h.elim
        · replace h := h.2 c20
          refine wp_iload_n (n := 24) (i := 3) (q := 0) dX3_told_23 rfl rfl rfl ?_
          exact wp_ireturn dX3_told_24 rfl h
      · exact h.elim
    · replace h := h.2 c7
      refine wp_bipush (n := 12) (v := (-2)) dX3_told_10 rfl (by decide) ?_
      exact wp_ireturn dX3_told_12 rfl h
  · exact h.elim
